section
/-! ===== plain laws of ints: evenness, the half of an even int, 100 divided by a negative int ===== -/
theorem nr_ev {x : Int32} (h : x.toBitVec.toNat % 2 = 0) : x.toInt % 2 = 0 := by
  have e : x.toInt = x.toBitVec.toInt := rfl
  rw [e, BitVec.toInt_eq_toNat_cond]
  split
  · omega
  · omega
theorem nr_and2 (x : Int32) : (x &&& (-2)).toInt % 2 = 0 := by
  apply nr_ev
  have e : (x &&& (-2)).toBitVec.toNat = x.toBitVec.toNat &&& 4294967294 := by
    rw [Int32.toBitVec_and, BitVec.toNat_and]
    rfl
  rw [e]
  have h := Nat.and_mod_two_eq_one (a := x.toBitVec.toNat) (b := 4294967294)
  rcases Nat.mod_two_eq_zero_or_one (x.toBitVec.toNat &&& 4294967294) with z | z
  · exact z
  · exact absurd (h.mp z).2 (by decide)
theorem nr_and1 {x : Int32} (h : ¬ x &&& 1 = 1) : x.toInt % 2 = 0 := by
  apply nr_ev
  have e := pk_and x (m := 1) 1 (by decide)
  rcases Nat.mod_two_eq_zero_or_one x.toBitVec.toNat with z | z
  · exact z
  · refine absurd ?_ h
    rw [e]
    show nI (x.toBitVec.toNat % 2) = 1
    rw [z]
    rfl
/-- an even int and its half -/
theorem nr_hf {x : Int32} (h : x.toInt % 2 = 0) : ∃ k : Int, x.toInt = 2 * k ∧ (x / 2).toInt = k := by
  refine ⟨x.toInt / 2, by omega, ?_⟩
  have e : (x / 2).toInt = x.toInt.tdiv (2 : Int32).toInt := Int32.toInt_div_of_ne_right x 2 (by decide)
  rw [e, show (2 : Int32).toInt = 2 from by decide]
  exact Int.tdiv_eq_ediv_of_dvd (by omega)
theorem nr_shr {x : Int32} (h : x.toInt % 2 = 0) : x >>> ((1 : Int32) &&& 31) = x / 2 := by
  obtain ⟨k, e, e2⟩ := nr_hf h
  apply Int32.toInt_inj.mp
  rw [pk_shr x _ 1 (by decide), e2, e, Int.shiftRight_eq_div_pow]
  show 2 * k / 2 = k
  omega
theorem nr_mul {x : Int32} (h : x.toInt % 2 = 0) : x / 2 * 2 = x := by
  obtain ⟨k, e, e2⟩ := nr_hf h
  apply Int32.toInt_inj.mp
  rw [Int32.toInt_mul, e2, show (2 : Int32).toInt = 2 from by decide, show k * 2 = x.toInt by omega]
  exact Int32.toInt_bmod x
theorem nr_rem {x : Int32} (h : x.toInt % 2 = 0) : x - x / 2 * 2 = 0 := by
  rw [nr_mul h, Int32.sub_self]
theorem nr_ne {x : Int32} (h : x.toInt % 2 = 0) (h0 : ¬ x = 0) : ¬ x / 2 = 0 := by
  intro z
  have e := nr_mul h
  rw [z] at e
  exact h0 (e.symm.trans (by decide))
theorem nr_dneg {x : Int32} {m : Nat} (hm : x.toInt = -(m : Int)) : 100 / x = -(nI (100 / m)) := by
  apply Int32.toInt_inj.mp
  have hl : 100 / m < 2 ^ 31 := Nat.lt_of_le_of_lt (Nat.div_le_self _ _) (by decide)
  rw [Int32.toInt_div, Int32.toInt_neg, hm, nI_toInt hl, show (100 : Int32).toInt = ((100 : Nat) : Int) from by decide, Int.tdiv_neg, ← Int.ofNat_tdiv]
end
section
/-! ===== the twin's inverse: its loop counts to 100 / m ===== -/
theorem nr_26 {post : Int32 → Prop} {x0 : Int32} {m : Nat} (h1 : 1 ≤ m) (h2 : m ≤ 2 ^ 31) (H : (0 ≤ x0 → post (nI (100 / m))) ∧ (¬ 0 ≤ x0 → post (-(nI (100 / m))))) : ∃ n, wX7_inverse_26 post x0 (lN m) n 0 := by
  have step : ∀ i : Nat, i ≤ 100 → ((100 : Int64) < (nI i + 1).toInt64 * lN m ↔ 100 < (i + 1) * m) := by
    intro i hi
    rw [nI_1, nI_l (by omega), lN_mul]
    have hb : (i + 1) * m ≤ 101 * 2 ^ 31 := Nat.mul_le_mul (by omega) h2
    exact pk_lLT (a := 100) (by decide) (by omega)
  have he : 100 / m ≤ 100 := Nat.div_le_self _ _
  have hend : 100 < (100 / m + 1) * m := by
    rw [Nat.add_one_mul]
    exact Nat.lt_div_mul_add h1
  have hin : ∀ i : Nat, i < 100 / m → ¬ 100 < (i + 1) * m := by
    intro i hi z
    have a : (i + 1) * m ≤ (100 / m) * m := Nat.mul_le_mul_right m hi
    have b : (100 / m) * m ≤ 100 := Nat.div_mul_le_self _ _
    omega
  exact pk_loop (σ := Unit) (fun n i _ => wX7_inverse_26 post x0 (lN m) n (nI i)) (fun _ _ => True) (100 / m) 0 () (Nat.zero_le _) trivial
    (fun n _ _ => br_t ((step _ he).mpr hend) H)
    (fun n i _ hi _ hw => br_f (fun z => hin i hi ((step i (by omega)).mp z)) (nm_r (nI_1 i) (hw () trivial)))
theorem nr_inv {post : Int32 → Prop} {x : Int32} (h0 : ¬ x = 0) (h : post (100 / x)) : wpX7_inverse post () x := by
  have l := x.toInt_lt
  have g := x.le_toInt
  have z64 : (0 : Int64).toInt = 0 := by decide
  have z32 : (0 : Int32).toInt = 0 := by decide
  have n0 : x.toInt ≠ 0 := fun z => h0 (Int32.toInt_inj.mp (z.trans z32.symm))
  unfold wpX7_inverse
  refine br_f h0 ?_
  by_cases p : 0 ≤ x.toInt
  · have q : (0 : Int64) ≤ x.toInt64 := by rw [Int64.le_iff_toInt_le, Int32.toInt_toInt64, z64]; exact p
    have q' : (0 : Int32) ≤ x := by rw [Int32.le_iff_toInt_le, z32]; exact p
    obtain ⟨m, hm⟩ := Int.eq_ofNat_of_zero_le p
    have hm31 : m < 2 ^ 31 := by omega
    have hm1 : 1 ≤ m := by omega
    have ex : x = nI m := Int32.toInt_inj.mp (by rw [nI_toInt hm31, hm])
    have el : x.toInt64 = lN m := by rw [ex, nI_l hm31]
    have ed : 100 / x = nI (100 / m) := by
      rw [ex]
      exact pk_div (a := 100) (by decide) hm1 hm31
    refine br_t q ?_
    rw [el]
    exact nr_26 hm1 (Nat.le_of_lt hm31) (br_t q' (by rw [← ed]; exact h))
  · have q : ¬ (0 : Int64) ≤ x.toInt64 := by rw [Int64.le_iff_toInt_le, Int32.toInt_toInt64, z64]; exact p
    have q' : ¬ (0 : Int32) ≤ x := by rw [Int32.le_iff_toInt_le, z32]; exact p
    obtain ⟨m, hm⟩ := Int.eq_ofNat_of_zero_le (show 0 ≤ -x.toInt by omega)
    have hm31 : m ≤ 2 ^ 31 := by omega
    have hm1 : 1 ≤ m := by omega
    have el : -x.toInt64 = lN m := by
      apply Int64.toInt_inj.mp
      rw [Int64.toInt_neg, Int32.toInt_toInt64, hm, pk_lT (by omega)]
      exact Int.bmod_eq_of_le (by omega) (by omega)
    have ed : 100 / x = -(nI (100 / m)) := nr_dneg (by omega)
    refine br_f q (nm_r el ?_)
    exact nr_26 hm1 hm31 (br_f q' (by rw [← ed]; exact h))
end
section
/-! ===== the methods, then the law ===== -/
theorem nr_half {post : Int32 → Prop} {x : Int32} (he : x.toInt % 2 = 0) (h : post (x / 2)) : wpX7_half post () x := by
  unfold wpX7_half
  rw [nr_shr he]
  exact h
theorem nr_halver {post : Int32 → Prop} {x : Int32} (he : x.toInt % 2 = 0) (h : post (x / 2)) : wpX1_apply post 0 x :=
  ⟨by decide, br_t (nr_rem he) ⟨by decide, by rw [Int32.add_zero]; exact h⟩⟩
theorem nr_inverse {post : Int32 → Prop} {x : Int32} (h0 : ¬ x = 0) (h : post (100 / x)) : wpX2_apply post () x := ⟨h0, h⟩
theorem nr_x6f {post : Int32 → St0 → Prop} {x : Int32} (he : x.toInt % 2 = 0) (h0 : ¬ x = 0) (h : post (100 / (x / 2)) ()) : wpX6_bothRules post 2 1 () 0 x :=
  ⟨by decide, by decide, by decide, by decide, br_t rfl (br_t rfl (nr_halver he (nr_inverse (nr_ne he h0) h)))⟩
theorem nr_x6t {post : Int32 → St0 → Prop} {x : Int32} (h0 : ¬ x = 0) (he : (100 / x).toInt % 2 = 0) (h : post (100 / x / 2) ()) : wpX6_bothRules post 2 1 () 1 x :=
  ⟨by decide, by decide, by decide, by decide, br_f (by decide) (br_f (by decide) (nr_inverse h0 (nr_halver he h)))⟩
theorem nr_x7f {post : Int32 → Prop} {x : Int32} (he : x.toInt % 2 = 0) (h0 : ¬ x = 0) (h : post (100 / (x / 2))) : wpX7_bothRules post () 0 x :=
  br_t rfl (nr_half he (nr_inv (nr_ne he h0) h))
theorem nr_x7t {post : Int32 → Prop} {x : Int32} (h0 : ¬ x = 0) (he : (100 / x).toInt % 2 = 0) (h : post (100 / x / 2)) : wpX7_bothRules post () 1 x :=
  br_f (by decide) (nr_inv h0 (nr_half he h))
theorem nr_70f {post : Int32 → St0 → Prop} {x : Int32} (he : x.toInt % 2 = 0) (h0 : ¬ x = 0) (hp : post 1 ()) : wL_lawOf_70 post 2 1 0 x 0 0 :=
  ⟨2, 1, by decide, by decide, nr_x6f he h0 (nr_x7f he h0 (br_t rfl hp))⟩
theorem nr_70t {post : Int32 → St0 → Prop} {x : Int32} (h0 : ¬ x = 0) (he : (100 / x).toInt % 2 = 0) (hp : post 1 ()) : wL_lawOf_70 post 2 1 1 x 0 0 :=
  ⟨2, 1, by decide, by decide, nr_x6t h0 he (nr_x7t h0 he (br_t rfl hp))⟩
theorem nr_58 {post : Int32 → St0 → Prop} {z : Int32} (hp : post 1 ()) : wL_lawOf_58 post 2 1 1 z 0 0 :=
  br_c (fun _ => nr_70t (x := 50) (by decide) (by decide) hp) (fun _ => nr_70t (x := -50) (by decide) (by decide) hp)
theorem nr_25f {post : Int32 → St0 → Prop} {z : Int32} (hp : post 1 ()) : wL_lawOf_25 post 2 1 0 z 0 0 :=
  br_t rfl (fun v ev => br_c (fun _ => nr_70f (x := 2) (by decide) (by decide) hp) (fun n => nr_70f (by rw [ev]; exact nr_and2 z) n hp))
theorem nr_25t {post : Int32 → St0 → Prop} {z : Int32} (hp : post 1 ()) : wL_lawOf_25 post 2 1 1 z 0 0 :=
  br_f (by decide) (br_c (fun _ => nr_58 hp) (fun n => ⟨n, br_c (fun _ => nr_58 hp) (fun q => nr_70t n (nr_and1 q) hp)⟩))
theorem nr_lawOf {post : Int32 → St0 → Prop} {p0 p1 : Int32} (hp : post 1 ()) : wpL_lawOf post 2 1 () p0 p1 :=
  br_c (fun _ => br_c (fun _ => nr_25t hp) (fun _ => nr_25t hp)) (fun _ => br_c (fun _ => nr_25f hp) (fun _ => nr_25f hp))
theorem nr_cell {post : Int32 → Prop} {L : Nat} {xs : Nat → Int32} (hL : L ≤ 2) (j : Nat) (hj : j < 2) (h : ∀ v, post v) : wpL_cellAt post L xs () (nI j) :=
  pk_le L j (fun _ => h 0) (fun z => ⟨vp_in_nI z (by omega), h _⟩)
theorem i_vc (xs : Nat → Int32) (L : Nat) (hL : L ≤ 2) : wpL_law (fun r => r = 1) L xs :=
  nr_cell hL 0 (by decide) (fun _ => nr_cell hL 1 (by decide) (fun _ => ⟨2, 1, by decide, by decide, nr_lawOf rfl⟩))
end
