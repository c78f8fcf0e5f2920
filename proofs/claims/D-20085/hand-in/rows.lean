section
/-- the remainder by 2 as Java takes it, as an integer: 2q taken off, q the quotient towards zero -/
theorem ck_rem (x : Int32) : ∃ q : Int, (x - x / 2 * 2).toInt = x.toInt - q * 2 ∧ ((0 ≤ x.toInt ∧ q = x.toInt / 2) ∨ (x.toInt < 0 ∧ q = -((-x.toInt) / 2))) := by
  have h1 := x.le_toInt
  have h2 := x.toInt_lt
  have hd : (x / 2).toInt = x.toInt.tdiv 2 := Int32.toInt_div_of_ne_right x 2 (by decide)
  have hq : (0 ≤ x.toInt ∧ x.toInt.tdiv 2 = x.toInt / 2) ∨ (x.toInt < 0 ∧ x.toInt.tdiv 2 = -((-x.toInt) / 2)) := by
    rcases Int.lt_or_le x.toInt 0 with z | z
    · refine Or.inr ⟨z, ?_⟩
      have e : (-(-x.toInt)).tdiv 2 = -((-x.toInt).tdiv 2) := Int.neg_tdiv _ _
      rw [Int.neg_neg, Int.tdiv_eq_ediv_of_nonneg (show 0 ≤ -x.toInt by omega)] at e
      exact e
    · exact Or.inl ⟨z, Int.tdiv_eq_ediv_of_nonneg z⟩
  refine ⟨x.toInt.tdiv 2, ?_, hq⟩
  generalize x.toInt.tdiv 2 = q at hd hq
  have hm : (x / 2 * 2).toInt = q * 2 := by
    rw [Int32.toInt_mul, hd]
    show (q * 2).bmod (2 ^ 32) = q * 2
    exact Int.bmod_eq_of_le (by omega) (by omega)
  rw [Int32.toInt_sub, hm]
  exact Int.bmod_eq_of_le (by omega) (by omega)
/-- the low bit of x, and x as an integer -/
theorem ck_bit (x : Int32) : ∃ m : Nat, m < 2 ∧ x &&& 1 = nI m ∧ x.toInt % 2 = (m : Int) := by
  refine ⟨x.toBitVec.toNat % 2 ^ 1, Nat.mod_lt _ (by decide), pk_and x 1 (by decide), ?_⟩
  have h : x.toInt = if 2 * x.toBitVec.toNat < 2 ^ 32 then (x.toBitVec.toNat : Int) else (x.toBitVec.toNat : Int) - ((2 ^ 32 : Nat) : Int) := BitVec.toInt_eq_toNat_cond x.toBitVec
  rw [h]
  split <;> omega
theorem ck_z : (0 : Int32).toInt = 0 := by decide
/-- a remainder that isn't negative is the low bit -/
theorem ck_even {x : Int32} (h : 0 ≤ x - x / 2 * 2) : x - x / 2 * 2 = x &&& 1 := by
  obtain ⟨q, e, hq⟩ := ck_rem x
  obtain ⟨m, hm, em, ev⟩ := ck_bit x
  rw [Int32.le_iff_toInt_le, e, ck_z] at h
  apply Int32.toInt_inj.mp
  rw [e, em, nI_toInt (by omega)]
  omega
/-- a negative remainder: the low bit is set -/
theorem ck_odd {x : Int32} (h : ¬ 0 ≤ x - x / 2 * 2) : (1 : Int32) = x &&& 1 := by
  obtain ⟨q, e, hq⟩ := ck_rem x
  obtain ⟨m, hm, em, ev⟩ := ck_bit x
  rw [Int32.le_iff_toInt_le, e, ck_z] at h
  rw [em, show m = 1 by omega]
  rfl
/-- what the twin's loop has found ahead of place i -/
def ck_at (a b : Nat → Int32) (x : Int32) : Nat → Int32
  | 0 => 0
  | i + 1 => if a i = x then b i else ck_at a b x i
theorem ck_loop {post : Int32 → St0 → Prop} {mc ms kc ks : Nat} {x : Int32} {a b : Nat → Int32} (H : post (10 * ck_at a b x 6 + (x &&& 1)) ()) : ∃ n, wX2_codeKind_71 post mc ms x kc ks a b n 0 0 :=
  pk_loop (fun n i s => wX2_codeKind_71 post mc ms x kc ks a b n s (nI i)) (fun i s => s = ck_at a b x i) 6 0 0 (by omega) rfl
    (fun n s h => pk_le 6 6 (fun _ => ⟨by decide, nm_e (br_c (fun g => by rw [ck_even g, h]; exact H) (fun g => by rw [ck_odd g, h]; exact H))⟩) (fun z => absurd z (by omega)))
    (fun n i s hi h hw => pk_le 6 i (fun z => absurd z (by omega)) (fun _ => ⟨pk_in i 6 hi, by
      rw [nI_clamp (show i < 2 ^ 31 by omega)]
      exact br_c (fun g => ⟨pk_in i 6 hi, nm_e (nm_r (nI_1 i) (hw _ (if_pos g).symm))⟩) (fun g => nm_r (nI_1 i) (hw _ (h.trans (if_neg g).symm)))⟩))
def ck_A : Nat → Int32 := upd (upd (upd (upd (upd (upd (fun _ => 0) 0 (-2147483648)) 1 (-1)) 2 200) 3 404) 4 500) 5 2147483647
def ck_B : Nat → Int32 := upd (upd (upd (upd (upd (upd (fun _ => 0) 0 1) 1 2) 2 3) 3 4) 4 4) 5 5
/-- the twin: its answer on any int -/
theorem ck_twin {post : Int32 → St0 → Prop} {mc ms : Nat} {x : Int32} (hc : 2 ≤ mc) (hs : 12 ≤ ms) (H : post (10 * ck_at ck_A ck_B x 6 + (x &&& 1)) ()) : wpX2_codeKind post mc ms () x :=
  ⟨by omega, by omega, nm_e (nm_e (nm_e (nm_e (nm_e (nm_e ⟨hc, hs, nm_e (nm_e (nm_e (nm_e (nm_e (nm_e (ck_loop (a := ck_A) (b := ck_B) H))))))⟩)))))⟩
theorem ck_none {x : Int32} (h0 : ¬ x = -2147483648) (h1 : ¬ x = -1) (h2 : ¬ x = 200) (h3 : ¬ x = 404) (h4 : ¬ x = 500) (h5 : ¬ x = 2147483647) : ck_at ck_A ck_B x 6 = 0 := by
  show (if (2147483647 : Int32) = x then (5 : Int32) else if (500 : Int32) = x then 4 else if (404 : Int32) = x then 4 else if (200 : Int32) = x then 3 else if (-1 : Int32) = x then 2 else if (-2147483648 : Int32) = x then 1 else 0) = 0
  rw [if_neg (Ne.symm h5), if_neg (Ne.symm h4), if_neg (Ne.symm h3), if_neg (Ne.symm h2), if_neg (Ne.symm h1), if_neg (Ne.symm h0)]
/-- the class: its answer on any int, by the twin's table -/
theorem ck_comp {post : Int32 → Prop} {x : Int32} (H : post (ck_at ck_A ck_B x 6 * 10 + (x &&& 1))) : wpX1_codeKind post () x := by
  have K : ∀ k, ck_at ck_A ck_B x 6 = k → wX1_codeKind_82 post x k := fun k e => by
    subst e
    exact H
  refine br_c (fun h0 => K _ (by rw [h0]; decide)) (fun h0 => br_c (fun h1 => K _ (by rw [h1]; decide)) (fun h1 => br_c (fun h2 => K _ (by rw [h2]; decide)) (fun h2 => br_c (fun h3 => K 4 (by rw [h3]; decide)) (fun h3 => br_c (fun h4 => K 4 (by rw [h4]; decide)) (fun h4 => br_c (fun h5 => K _ (by rw [h5]; decide)) (fun h5 => K _ (ck_none h0 h1 h2 h3 h4 h5)))))))
/-- class against twin -/
theorem ck_115 {post : Int32 → St0 → Prop} {mc ms : Nat} (hc : 2 ≤ mc) (hs : 12 ≤ ms) (H : post 1 ()) (z : Int32) : wL_lawOf_115 post mc ms z 0 0 :=
  ck_comp ⟨2, 12, by omega, by omega, ck_twin (Nat.le_refl 2) (Nat.le_refl 12) (br_t (by rw [Int32.mul_comm]) H)⟩
theorem ck_lawOf {post : Int32 → St0 → Prop} {mc ms : Nat} (hc : 2 ≤ mc) (hs : 12 ≤ ms) (H : post 1 ()) (p q : Int32) : wpL_lawOf post mc ms () p q :=
  fun _ _ => br_c (fun _ => ck_115 hc hs H _) (fun _ => br_c (fun _ => ck_115 hc hs H _) (fun _ => br_c (fun _ => ck_115 hc hs H _) (fun _ => br_c (fun _ => ck_115 hc hs H _) (fun _ => br_c (fun _ => ck_115 hc hs H _) (fun _ => br_c (fun _ => ck_115 hc hs H _) (fun _ => br_c (fun _ => ck_115 hc hs H _) (fun _ => br_c (fun _ => ck_115 hc hs H _) (fun _ => br_c (fun _ => ck_115 hc hs H _) (fun _ => ck_115 hc hs H _)))))))))
theorem ck_cell {post : Int32 → Prop} {L : Nat} {xs : Nat → Int32} (k : Nat) (hL : L ≤ 2) (hk : k < 2) (H : ∀ r, post r) : wpL_cellAt post L xs () (nI k) :=
  pk_le L k (fun _ => H _) (fun z => ⟨pk_in k L z, H _⟩)
end
section
theorem i_vc (xs : Nat → Int32) (L : Nat) (hL : L ≤ 2) : wpL_law (fun r => r = 1) L xs :=
  ck_cell 0 hL (by omega) (fun a => ck_cell 1 hL (by omega) (fun b => ⟨5, 80, by omega, by omega, ck_lawOf (by omega) (by omega) rfl a b⟩))
end
