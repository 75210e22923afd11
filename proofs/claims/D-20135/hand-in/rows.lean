section
/-! plain laws: the halves of an even int, the quotients of 100 -/
theorem nr_and (v : Int32) : (v &&& (-2)).toInt % 2 = 0 := by
  have h : (v &&& (-2)).toBitVec.toNat % 2 ^ 1 = 0 := by
    rw [Int32.toBitVec_and, BitVec.toNat_and, show ((-2 : Int32).toBitVec.toNat) = 4294967294 from by decide, Nat.and_mod_two_pow]
    exact Nat.and_zero _
  have e : (v &&& (-2)).toInt = (v &&& (-2)).toBitVec.toInt := rfl
  rw [e, BitVec.toInt_eq_toNat_cond]
  split <;> omega
/-- an even int: its half, by division and by shift -/
theorem nr_divT {w : Int32} : (w / 2).toInt = w.toInt.tdiv 2 := by
  rw [Int32.toInt_div_of_ne_right _ _ (by decide)]
  rfl
theorem nr_shrT (w : Int32) : (w >>> ((1 : Int32) &&& 31)).toInt = w.toInt / 2 := by
  rw [pk_shr w _ 1 (by decide), Int.shiftRight_eq_div_pow]
  rfl
theorem nr_tdiv {z : Int} (h : z % 2 = 0) : z.tdiv 2 = z / 2 := by
  obtain ⟨k, rfl⟩ : ∃ k, z = k * 2 := ⟨z / 2, by omega⟩
  rw [Int.mul_tdiv_cancel _ (by decide), Int.mul_ediv_cancel _ (by decide)]
theorem nr_half {w : Int32} (h : w.toInt % 2 = 0) : w / 2 + 0 = w >>> ((1 : Int32) &&& 31) := by
  apply Int32.toInt_inj.mp
  rw [Int32.add_zero, nr_divT, nr_shrT, nr_tdiv h]
theorem nr_rem {w : Int32} (h : w.toInt % 2 = 0) : w - w / 2 * 2 = 0 := by
  have e : w / 2 * 2 = w := by
    apply Int32.toInt_inj.mp
    have h1 := Int32.toInt_lt w
    have h2 := Int32.le_toInt w
    rw [Int32.toInt_mul, nr_divT, nr_tdiv h, show (2 : Int32).toInt = 2 from by decide, Int.bmod_eq_of_le (by omega) (by omega)]
    omega
  rw [e, Int32.sub_self]
theorem nr_n13 {w : Int32} (h : w.toInt % 2 = 0) : ¬ w = 13 := by
  intro e
  rw [e] at h
  exact absurd h (by decide)
/-- an int that isn't 0: a natural, or the negative of one -/
theorem nr_neg {p : Int32} (h : ¬ 0 ≤ p) : ∃ m : Nat, 0 < m ∧ m ≤ 2 ^ 31 ∧ p.toInt = -(m : Int) := by
  have h1 := Int32.le_toInt p
  rw [Int32.le_iff_toInt_le, show (0 : Int32).toInt = 0 from by decide] at h
  exact ⟨p.toInt.natAbs, by omega, by omega, by omega⟩
theorem nr_pos {p : Int32} (h : 0 ≤ p) (h0 : ¬ p = 0) : ∃ m : Nat, 0 < m ∧ m < 2 ^ 31 ∧ p = nI m := by
  have h' : ¬ p < 0 := by
    rw [Int32.lt_iff_toInt_lt]
    rw [Int32.le_iff_toInt_le] at h
    omega
  obtain ⟨j, hj, e⟩ := nI_of h'
  refine ⟨j, ?_, hj, e⟩
  rcases Nat.eq_zero_or_pos j with z | z
  · rw [z] at e
    exact absurd e h0
  · exact z
theorem nr_le64 (p : Int32) : 0 ≤ p.toInt64 ↔ 0 ≤ p := by
  rw [Int64.le_iff_toInt_le, Int32.le_iff_toInt_le, Int32.toInt_toInt64]
  exact Iff.rfl
theorem nr_neg64 {p : Int32} {m : Nat} (hm : m ≤ 2 ^ 31) (e : p.toInt = -(m : Int)) : -p.toInt64 = lN m := by
  apply Int64.toInt_inj.mp
  rw [Int64.toInt_neg, Int32.toInt_toInt64, e, pk_lT (by omega), Int.bmod_eq_of_le (by omega) (by omega)]
  omega
theorem nr_qneg {p : Int32} {m : Nat} (h0 : 0 < m) (e : p.toInt = -(m : Int)) : -nI (100 / m) = 100 / p := by
  apply Int32.toInt_inj.mp
  have hq : 100 / m ≤ 100 := Nat.div_le_self _ _
  rw [sb_negT (by omega), Int32.toInt_div_of_ne_left _ _ (by decide), e, show (100 : Int32).toInt = ((100 : Nat) : Int) from by decide, Int.tdiv_neg, ← Int.ofNat_tdiv]
theorem nr_qpos {m : Nat} (h0 : 0 < m) (hm : m < 2 ^ 31) : nI (100 / m) = 100 / nI m :=
  (pk_div (a := 100) (by decide) h0 hm).symm
/-- the loop's condition -/
theorem nr_c {i m : Nat} (hi : i ≤ 100) (hm : m ≤ 2 ^ 31) : (100 : Int64) < (nI i + 1).toInt64 * lN m ↔ 100 < (i + 1) * m := by
  have hb : (i + 1) * m ≤ 101 * 2 ^ 31 := Nat.mul_le_mul (by omega) hm
  rw [nI_1, nI_l (by omega), lN_mul]
  exact pk_lLT (a := 100) (by decide) (by omega)
end
section
/-! the twin's inverse -/
theorem nr_26 {post : Int32 → Prop} {x0 : Int32} {m : Nat} (h0 : 0 < m) (hm : m ≤ 2 ^ 31) (hp : 0 ≤ x0 → post (nI (100 / m))) (hn : ¬ 0 ≤ x0 → post (-nI (100 / m))) : ∃ n, wX7_inverse_26 post x0 (lN m) n 0 :=
  have hq : 100 / m ≤ 100 := Nat.div_le_self _ _
  pk_loop (σ := Unit) (fun n i _ => wX7_inverse_26 post x0 (lN m) n (nI i)) (fun _ _ => True) (100 / m) 0 () (Nat.zero_le _) trivial
    (fun n _ _ => br_t ((nr_c hq hm).mpr ((Nat.div_lt_iff_lt_mul h0).mp (Nat.lt_succ_self _))) (br_c hp hn))
    (fun n i _ hi _ hw => br_f (fun z => absurd ((nr_c (by omega) hm).mp z) (Nat.not_lt.mpr ((Nat.le_div_iff_mul_le h0).mp hi))) (nm_r (nI_1 i) (hw () trivial)))
theorem nr_inv {post : Int32 → Prop} {u : St0} {p : Int32} (h0 : ¬ p = 0) (hp : post (100 / p)) : wpX7_inverse post u p := by
  refine br_f h0 (br_c (fun h => ?_) (fun h => ?_))
  · have h' := (nr_le64 p).mp h
    obtain ⟨m, m0, hm, e⟩ := nr_pos h' h0
    have el : p.toInt64 = lN m := by rw [e]; exact nI_l hm
    rw [el]
    refine nr_26 m0 (by omega) (fun _ => ?_) (fun z => absurd h' z)
    rw [nr_qpos m0 hm, ← e]
    exact hp
  · have h' : ¬ 0 ≤ p := fun z => h ((nr_le64 p).mpr z)
    obtain ⟨m, m0, hm, e⟩ := nr_neg h'
    refine nm_r (nr_neg64 hm e) (nr_26 m0 hm (fun z => absurd z h') (fun _ => ?_))
    rw [nr_qneg m0 e]
    exact hp
/-! the law's joins -/
theorem nr_cell {post : Int32 → Prop} {L : Nat} {xs : Nat → Int32} {u : St0} (k : Nat) (hk : k < 2) (hL : L ≤ 2) (H : ∀ r, post r) : wpL_cellAt post L xs u (nI k) :=
  pk_le L k (fun _ => H 0) (fun h => ⟨pk_in k L h, H _⟩)
theorem nr_13 {post : Int32 → St0 → Prop} {y : Nat} (hy : y < 2) (hp : post 1 ()) : wL_lawOf_80 post 1 16 13 y 0 0 := by
  refine ⟨1, 16, by omega, by omega, hy, br_c (fun _ => ⟨by omega, by omega, br_t rfl ?_⟩) (fun a => br_c (fun _ => ⟨by omega, by omega, br_t rfl ?_⟩) (fun b => absurd hy (by omega)))⟩
  · exact br_t rfl (br_t rfl (br_t rfl hp))
  · exact br_t rfl (br_t rfl (br_t rfl hp))
theorem nr_null {post : Int32 → St0 → Prop} (hp : post 1 ()) : wL_lawOf_80_2 post 1 16 13 0 0 :=
  ⟨1, 16, by omega, by omega, br_t rfl (br_t rfl (br_t rfl (br_t rfl hp)))⟩
theorem nr_strict {post : Int32 → St0 → Prop} {w : Int32} (h : w.toInt % 2 = 0) (hp : post 1 ()) : wL_lawOf_80 post 1 16 w 0 0 0 :=
  ⟨1, 16, by omega, by omega, by decide, br_t rfl ⟨by omega, by omega, br_f (nr_n13 h) ⟨by decide, br_t (nr_rem h) ⟨by decide,
    br_f (nr_n13 h) ⟨by decide, br_t rfl (br_f (nr_n13 h) ⟨by decide, br_f (by decide) (br_t (nr_half h) hp)⟩)⟩⟩⟩⟩⟩
theorem nr_lax {post : Int32 → St0 → Prop} {w : Int32} (h13 : ¬ w = 13) (h0 : ¬ w = 0) (hp : post 1 ()) : wL_lawOf_80 post 1 16 w 1 0 0 :=
  ⟨1, 16, by omega, by omega, by decide, br_f (by decide) (br_t rfl ⟨by omega, by omega, br_f h13 ⟨h0,
    br_f h13 ⟨by decide, br_f (by decide) (br_f h13 ⟨by decide, br_t rfl (nr_inv h0 (br_t rfl hp))⟩)⟩⟩⟩)⟩
theorem nr_40 {post : Int32 → St0 → Prop} {k v : Int32} {y : Nat} (hy : y < 2) (hp : post 1 ()) : wL_lawOf_40 post 1 16 k v y 0 0 := by
  refine br_c (fun h => ?_) (fun h => ⟨hy, br_c (fun e => nm_e ?_) (fun e => ?_)⟩)
  · subst h
    exact br_c (fun _ => nr_null hp) (fun _ => nr_13 hy hp)
  · subst e
    exact nr_strict (nr_and v) hp
  · have e1 : y = 1 := by omega
    subst e1
    exact br_c (fun _ => nr_lax (by decide) (by decide) hp) (fun z => nr_lax h z hp)
theorem nr_24 {post : Int32 → St0 → Prop} {k v : Int32} (hp : post 1 ()) : wL_lawOf_24 post 1 16 k v 0 0 :=
  br_c (fun _ => nr_40 (by decide) hp) (fun _ => nr_40 (by decide) hp)
theorem nr_law {post : Int32 → St0 → Prop} {u : St0} {k x : Int32} (hp : post 1 ()) : wpL_lawOf post 1 16 u k x :=
  br_c (fun _ => nr_24 hp) (fun _ => br_c (fun _ => nr_24 hp) (fun _ => nr_24 hp))
theorem i_vc (xs : Nat → Int32) (L : Nat) (hL : L ≤ 2) : wpL_law (fun r => r = 1) L xs :=
  nr_cell 0 (by decide) hL (fun _ => nr_cell 1 (by decide) hL (fun _ => ⟨1, 16, by omega, by omega, nr_law rfl⟩))
end
