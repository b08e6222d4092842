section
/-- bit c of w -/
def hm_b (w c : Int32) : Int32 := (w >>> (c &&& 31)) &&& 1
/-- the number of ones below bit k -/
def hm_on (w : Int32) : Nat → Int32
  | 0 => 0
  | k + 1 => hm_on w k + hm_b w (nI k)
/-- the parity of the bits below bit k -/
def hm_pr (w : Int32) : Nat → Int32
  | 0 => 0
  | k + 1 => hm_pr w k ^^^ hm_b w (nI k)
/-- the checks of the bits below bit k -/
def hm_ck (w : Int32) : Nat → Int32
  | 0 => 0
  | k + 1 => hm_ck w k ^^^ (if hm_b w (nI k) = 0 then 0 else nI k)
/-- the loop of spread -/
def hm_sp (v : Int32) : Nat → Int32 → Int32 → Int32 → Int32
  | 0 => fun x2 _ _ => x2
  | n + 1 => fun x2 x3 x4 => if 13 ≤ x4 then x2 else if (x4 &&& (x4 - 1)) = 0 then hm_sp v n x2 x3 (x4 + 1) else hm_sp v n (x2 ||| (hm_b v x3 <<< (x4 &&& 31))) (x3 + 1) (x4 + 1)
/-- the loop of byteIn -/
def hm_by (w : Int32) : Nat → Int32 → Int32 → Int32 → Int32
  | 0 => fun x2 _ _ => x2
  | n + 1 => fun x2 x3 x4 => if 13 ≤ x4 then x2 else if (x4 &&& (x4 - 1)) = 0 then hm_by w n x2 x3 (x4 + 1) else hm_by w n (x2 ||| (hm_b w x4 <<< (x3 &&& 31))) (x3 + 1) (x4 + 1)
/-- one turn of encoded's loop -/
def hm_st (c x4 x2 : Int32) : Int32 := if (c &&& x4) = 0 then x2 else x2 ||| ((1 : Int32) <<< (x4 &&& 31))
def hm_e4 (c s : Int32) : Int32 := hm_st c 8 (hm_st c 4 (hm_st c 2 (hm_st c 1 s)))
def hm_od (w : Int32) : Int32 := if hm_on w 13 &&& 1 = 0 then w else w ||| 1
/-- the code word of v -/
def hm_enc (v : Int32) : Int32 := hm_od (hm_e4 (hm_ck (hm_sp v 11 0 0 3) 13) (hm_sp v 11 0 0 3))
/-- what wrongBit answers -/
def hm_wb (w : Int32) : Int32 := if hm_on w 13 &&& 1 = 0 then (if hm_ck w 13 = 0 then 13 else -2) else (if 12 < hm_ck w 13 then -2 else hm_ck w 13)
/-- the word with bit i alone -/
def hm_f (i : Nat) : Int32 := (1 : Int32) <<< (nI i &&& 31)

theorem hm_b01 (w c : Int32) : hm_b w c = 0 ∨ hm_b w c = 1 := by
  unfold hm_b
  obtain ⟨j, hj, e⟩ := pk_andE (w >>> (c &&& 31)) (m := 1) 1 (by decide)
  rw [e]
  have h : j = 0 ∨ j = 1 := by omega
  rcases h with rfl | rfl
  · exact Or.inl rfl
  · exact Or.inr rfl
theorem hm_bb : ∀ p q r : Bool, ((p ^^ q) && r) = ((p && r) ^^ (q && r)) := by decide
theorem hm_ax (x y z : Int32) : (x ^^^ y) &&& z = (x &&& z) ^^^ (y &&& z) := by
  apply Int32.toBitVec_inj.1
  apply BitVec.eq_of_getLsbD_eq
  intro i hi
  rw [Int32.toBitVec_xor, Int32.toBitVec_and, Int32.toBitVec_and, Int32.toBitVec_and, Int32.toBitVec_xor, BitVec.getLsbD_xor, BitVec.getLsbD_and, BitVec.getLsbD_and, BitVec.getLsbD_and, BitVec.getLsbD_xor]
  exact hm_bb _ _ _
theorem hm_bx (x y c : Int32) : hm_b (x ^^^ y) c = hm_b x c ^^^ hm_b y c := by
  unfold hm_b
  rw [Int32.shiftRight_xor, hm_ax]
theorem hm_t (p q k : Int32) (hp : p = 0 ∨ p = 1) (hq : q = 0 ∨ q = 1) : (if p ^^^ q = 0 then (0 : Int32) else k) = (if p = 0 then 0 else k) ^^^ (if q = 0 then 0 else k) := by
  rcases hp with rfl | rfl <;> rcases hq with rfl | rfl <;> simp
theorem hm_x4 (a b c d : Int32) : (a ^^^ b) ^^^ (c ^^^ d) = (a ^^^ c) ^^^ (b ^^^ d) := by
  rw [Int32.xor_assoc, ← Int32.xor_assoc b c d, Int32.xor_comm b c, Int32.xor_assoc c b d, ← Int32.xor_assoc]
theorem hm_ckx (x y : Int32) (k : Nat) : hm_ck (x ^^^ y) k = hm_ck x k ^^^ hm_ck y k := by
  induction k with
  | zero =>
    show (0 : Int32) = 0 ^^^ 0
    decide
  | succ k ih =>
    show hm_ck (x ^^^ y) k ^^^ (if hm_b (x ^^^ y) (nI k) = 0 then 0 else nI k) = (hm_ck x k ^^^ (if hm_b x (nI k) = 0 then 0 else nI k)) ^^^ (hm_ck y k ^^^ (if hm_b y (nI k) = 0 then 0 else nI k))
    rw [ih, hm_bx, hm_t _ _ _ (hm_b01 x _) (hm_b01 y _), hm_x4]
theorem hm_prx (x y : Int32) (k : Nat) : hm_pr (x ^^^ y) k = hm_pr x k ^^^ hm_pr y k := by
  induction k with
  | zero =>
    show (0 : Int32) = 0 ^^^ 0
    decide
  | succ k ih =>
    show hm_pr (x ^^^ y) k ^^^ hm_b (x ^^^ y) (nI k) = (hm_pr x k ^^^ hm_b x (nI k)) ^^^ (hm_pr y k ^^^ hm_b y (nI k))
    rw [ih, hm_bx, hm_x4]
theorem hm_a1 (a : Int32) : (a + 1) &&& 1 = (a &&& 1) ^^^ 1 := by
  have e : (a + 1).toBitVec.toNat = (a.toBitVec.toNat + 1) % 2 ^ 32 := by
    rw [Int32.toBitVec_add, BitVec.toNat_add]
    rfl
  rw [pk_and (a + 1) (m := 1) 1 (by decide), pk_and a (m := 1) 1 (by decide), e]
  rcases Nat.mod_two_eq_zero_or_one a.toBitVec.toNat with h | h
  · rw [show (a.toBitVec.toNat + 1) % 2 ^ 32 % 2 ^ 1 = 1 by omega, show a.toBitVec.toNat % 2 ^ 1 = 0 by omega]
    decide
  · rw [show (a.toBitVec.toNat + 1) % 2 ^ 32 % 2 ^ 1 = 0 by omega, show a.toBitVec.toNat % 2 ^ 1 = 1 by omega]
    decide
theorem hm_par (w : Int32) (k : Nat) : hm_on w k &&& 1 = hm_pr w k := by
  induction k with
  | zero =>
    show (0 : Int32) &&& 1 = 0
    decide
  | succ k ih =>
    show (hm_on w k + hm_b w (nI k)) &&& 1 = hm_pr w k ^^^ hm_b w (nI k)
    rw [← ih]
    rcases hm_b01 w (nI k) with h | h
    · rw [h, Int32.add_zero, Int32.xor_zero]
    · rw [h, hm_a1]
theorem hm_nx (x y : Int32) : (x ^^^ y).toInt16.toInt32 = x.toInt16.toInt32 ^^^ y.toInt16.toInt32 := by
  rw [Int32.toInt16_xor, Int16.toInt32_xor]
theorem hm_nI (a b : Nat) : nI a ^^^ nI b = nI (a ^^^ b) := by
  apply Int32.toBitVec_inj.1
  show BitVec.ofNat 32 a ^^^ BitVec.ofNat 32 b = BitVec.ofNat 32 (a ^^^ b)
  rw [BitVec.ofNat_xor]
theorem hm_xlt {p q : Nat} (hp : p < 256) (hq : q < 256) : p ^^^ q < 256 := Nat.xor_lt_two_pow (n := 8) hp hq
theorem hm_n2 : ∀ k, k < 256 → ¬ nI k = -2 := by decide +kernel
end
section
/-! the finite facts: the 256 code words, the 13 words of one bit, the pairs -/
theorem hm_one : ∀ i, i < 13 → hm_ck (hm_f i) 13 = nI i ∧ hm_pr (hm_f i) 13 = 1 ∧ (hm_f i).toInt16.toInt32 = hm_f i := by decide +kernel
theorem hm_two : ∀ i, i < 13 → ∀ j, j < 13 → i ≠ j → hm_on (hm_f i ^^^ hm_f j) 13 = 2 := by decide +kernel
theorem hm_on0 : hm_on 0 13 = 0 := by decide +kernel
theorem hm_wb_0 : hm_wb 0 = 13 := by decide +kernel
theorem hm_code : ∀ k, k < 256 → hm_ck (hm_enc (nI k)) 13 = 0 ∧ hm_on (hm_enc (nI k)) 13 &&& 1 = 0 ∧ (hm_enc (nI k)).toInt16.toInt32 = hm_enc (nI k) ∧ hm_by (hm_enc (nI k)) 11 0 0 3 = nI k ∧ 0 ≤ hm_enc (nI k) := by decide +kernel

theorem hm_wb_good {k : Nat} (hk : k < 256) : hm_wb (hm_enc (nI k)) = 13 := by
  unfold hm_wb
  rw [if_pos (hm_code k hk).2.1, if_pos (hm_code k hk).1]
theorem hm_wb_bad {k i j : Nat} (hk : k < 256) (hi : i < 13) (hj : j < 13) (h : i ≠ j) : hm_wb ((hm_enc (nI k) ^^^ hm_f i) ^^^ hm_f j) = -2 := by
  have h0 : hm_pr (hm_enc (nI k)) 13 = 0 := by
    rw [← hm_par]
    exact (hm_code k hk).2.1
  have h1 : hm_on ((hm_enc (nI k) ^^^ hm_f i) ^^^ hm_f j) 13 &&& 1 = 0 := by
    rw [hm_par, hm_prx, hm_prx, h0, (hm_one i hi).2.1, (hm_one j hj).2.1]
    decide
  have h2 : ¬ hm_ck ((hm_enc (nI k) ^^^ hm_f i) ^^^ hm_f j) 13 = 0 := by
    rw [hm_ckx, hm_ckx, (hm_code k hk).1, (hm_one i hi).1, (hm_one j hj).1, Int32.zero_xor, Int32.xor_eq_zero_iff, nI_eq (by omega) (by omega)]
    exact h
  unfold hm_wb
  rw [if_pos h1, if_neg h2]
theorem hm_nar1 {k i : Nat} (hk : k < 256) (hi : i < 13) : (hm_enc (nI k) ^^^ hm_f i).toInt16.toInt32 = hm_enc (nI k) ^^^ hm_f i := by
  rw [hm_nx, (hm_code k hk).2.2.1, (hm_one i hi).2.2]
theorem hm_nar2 {k i j : Nat} (hk : k < 256) (hi : i < 13) (hj : j < 13) : ((hm_enc (nI k) ^^^ hm_f i) ^^^ hm_f j).toInt16.toInt32 = (hm_enc (nI k) ^^^ hm_f i) ^^^ hm_f j := by
  rw [hm_nx, hm_nar1 hk hi, (hm_one j hj).2.2]
theorem hm_back (e x : Int32) : (e ^^^ x) ^^^ x = e := by
  rw [Int32.xor_assoc, Int32.xor_self, Int32.xor_zero]
theorem hm_dist {e : Int32} {i j : Nat} (hi : i < 13) (hj : j < 13) (h : i ≠ j) : hm_on (((e ^^^ hm_f i) ^^^ hm_f j) ^^^ e) 13 = 2 := by
  rw [Int32.xor_comm, Int32.xor_assoc e, ← Int32.xor_assoc e e, Int32.xor_self, Int32.zero_xor]
  exact hm_two i hi j hj h
end
section
/-! one lemma a method -/
theorem hm_isWord {post : Int32 → Prop} {f : Int32} {a : Nat → Int32} {w : Nat} (hw : w < 16) (H : post 1) : wpX_isWord post (f, a) (nI w) :=
  br_f (nI_pos (by omega)) (br_f (nI_nlt (a := 15) (b := w) (by omega) (by omega)) H)
theorem hm_sp7 {post : Int32 → Prop} {v f : Int32} {a : Nat → Int32} : ∀ (n k : Nat) (x2 x3 : Int32), k ≤ 13 → 13 < n + k → post (hm_sp v n x2 x3 (nI k)) → wX_spread_7 post v f a n x2 x3 (nI k) := by
  intro n
  induction n with
  | zero =>
    intro k x2 x3 h1 h2 _
    exact absurd h2 (by omega)
  | succ n ih =>
    intro k x2 x3 h1 h2 H
    by_cases hk : k = 13
    · subst hk
      have t : (13 : Int32) ≤ nI 13 := nI_le (a := 13) (b := 13) (by omega) (by omega)
      have e : hm_sp v (n + 1) x2 x3 (nI 13) = x2 := by unfold hm_sp; exact if_pos t
      rw [e] at H
      exact br_t t H
    · have t : ¬ (13 : Int32) ≤ nI k := nI_ge (a := k) (b := 13) (by omega) (by omega)
      have e : hm_sp v (n + 1) x2 x3 (nI k) = if (nI k &&& (nI k - 1)) = 0 then hm_sp v n x2 x3 (nI k + 1) else hm_sp v n (x2 ||| (hm_b v x3 <<< (nI k &&& 31))) (x3 + 1) (nI k + 1) := if_neg t
      rw [e] at H
      refine br_f t (br_c (fun z => ?_) (fun z => ?_))
      · rw [if_pos z, nI_1] at H
        exact nm_r (nI_1 k) (ih (k + 1) _ _ (by omega) (by omega) H)
      · rw [if_neg z, nI_1] at H
        exact nm_e (nm_e (nm_r (nI_1 k) (ih (k + 1) _ _ (by omega) (by omega) H)))
theorem hm_spread {post : Int32 → Prop} {v f : Int32} {a : Nat → Int32} (H : post (hm_sp v 11 0 0 3)) : wpX_spread post (f, a) v :=
  ⟨11, hm_sp7 11 3 0 0 (by omega) (by omega) H⟩
theorem hm_by7 {post : Int32 → Prop} {v f : Int32} {a : Nat → Int32} : ∀ (n k : Nat) (x2 x3 : Int32), k ≤ 13 → 13 < n + k → post (hm_by v n x2 x3 (nI k)) → wX_byteIn_7 post v f a n x2 x3 (nI k) := by
  intro n
  induction n with
  | zero =>
    intro k x2 x3 h1 h2 _
    exact absurd h2 (by omega)
  | succ n ih =>
    intro k x2 x3 h1 h2 H
    by_cases hk : k = 13
    · subst hk
      have t : (13 : Int32) ≤ nI 13 := nI_le (a := 13) (b := 13) (by omega) (by omega)
      have e : hm_by v (n + 1) x2 x3 (nI 13) = x2 := by unfold hm_by; exact if_pos t
      rw [e] at H
      exact br_t t H
    · have t : ¬ (13 : Int32) ≤ nI k := nI_ge (a := k) (b := 13) (by omega) (by omega)
      have e : hm_by v (n + 1) x2 x3 (nI k) = if (nI k &&& (nI k - 1)) = 0 then hm_by v n x2 x3 (nI k + 1) else hm_by v n (x2 ||| (hm_b v (nI k) <<< (x3 &&& 31))) (x3 + 1) (nI k + 1) := if_neg t
      rw [e] at H
      refine br_f t (br_c (fun z => ?_) (fun z => ?_))
      · rw [if_pos z, nI_1] at H
        exact nm_r (nI_1 k) (ih (k + 1) _ _ (by omega) (by omega) H)
      · rw [if_neg z, nI_1] at H
        exact nm_e (nm_e (nm_r (nI_1 k) (ih (k + 1) _ _ (by omega) (by omega) H)))
theorem hm_byteIn {post : Int32 → Prop} {v f : Int32} {a : Nat → Int32} (H : post (hm_by v 11 0 0 3)) : wpX_byteIn post (f, a) v :=
  ⟨11, hm_by7 11 3 0 0 (by omega) (by omega) H⟩
theorem hm_ckS0 {w : Int32} {i : Nat} (z : hm_b w (nI i) = 0) : hm_ck w (i + 1) = hm_ck w i := by
  show hm_ck w i ^^^ (if hm_b w (nI i) = 0 then 0 else nI i) = hm_ck w i
  rw [if_pos z, Int32.xor_zero]
theorem hm_ckS1 {w : Int32} {i : Nat} (z : ¬ hm_b w (nI i) = 0) : hm_ck w (i + 1) = hm_ck w i ^^^ nI i := by
  show hm_ck w i ^^^ (if hm_b w (nI i) = 0 then 0 else nI i) = hm_ck w i ^^^ nI i
  rw [if_neg z]
theorem hm_ck1 (w : Int32) : (0 : Int32) = hm_ck w 1 := by
  by_cases z : hm_b w (nI 0) = 0
  · rw [hm_ckS0 z]
    rfl
  · rw [hm_ckS1 z, nI_0, Int32.xor_zero]
    rfl
theorem hm_checksOf {post : Int32 → Prop} {w f : Int32} {a : Nat → Int32} (H : post (hm_ck w 13)) : wpX_checksOf post (f, a) w :=
  pk_loop (fun n i s => wX_checksOf_4 post w f a n s (nI i)) (fun i s => s = hm_ck w i) 13 1 0 (by omega) (hm_ck1 w)
    (fun n s h => pk_le 13 13 (fun _ => by rw [h]; exact H) (fun z => absurd z (by omega)))
    (fun n i s hi h hw => pk_le 13 i (fun z => absurd z (by omega)) (fun _ => br_c (fun z => nm_r (nI_1 i) (hw _ (by rw [h]; exact (hm_ckS0 z).symm))) (fun z => nm_e (nm_r (nI_1 i) (hw _ (by rw [h]; exact (hm_ckS1 z).symm))))))
theorem hm_onesIn {post : Int32 → Prop} {w f : Int32} {a : Nat → Int32} (H : post (hm_on w 13)) : wpX_onesIn post (f, a) w :=
  pk_loop (fun n i s => wX_onesIn_4 post w f a n s (nI i)) (fun i s => s = hm_on w i) 13 0 0 (by omega) rfl
    (fun n s h => pk_le 13 13 (fun _ => by rw [h]; exact H) (fun z => absurd z (by omega)))
    (fun n i s hi h hw => pk_le 13 i (fun z => absurd z (by omega)) (fun _ => nm_e (nm_r (nI_1 i) (hw _ (by rw [h]; rfl)))))
theorem hm_isOdd {post : Int32 → Prop} {w f : Int32} {a : Nat → Int32} (H0 : hm_on w 13 &&& 1 = 0 → post 0) (H1 : ¬ hm_on w 13 &&& 1 = 0 → post 1) : wpX_isOdd post (f, a) w := by
  unfold wpX_isOdd
  dsimp only
  exact hm_onesIn (br_c H0 H1)
theorem hm_en {post : Int32 → Prop} {c f : Int32} {a : Nat → Int32} {n : Nat} {x2 x4 : Int32} (y4 : Int32) (h : ¬ 8 < x4) (hy : x4 * 2 = y4) (H : wX_encoded_15 post c f a n (hm_st c x4 x2) y4) : wX_encoded_15 post c f a (n + 1) x2 x4 := by
  unfold hm_st at H
  refine br_f h (br_c (fun z => nm_r hy ?_) (fun z => nm_e (nm_r hy ?_)))
  · rw [if_pos z] at H
    exact H
  · rw [if_neg z] at H
    exact H
theorem hm_en5 {post : Int32 → Prop} {c f : Int32} {a : Nat → Int32} {x2 : Int32} (H : post (hm_od x2)) : wX_encoded_15 post c f a 1 x2 16 := by
  unfold hm_od at H
  refine br_t (by decide) (hm_isOdd (fun z => br_t rfl ?_) (fun z => br_f (by decide) ?_))
  · rw [if_pos z] at H
    exact H
  · rw [if_neg z] at H
    exact H
theorem hm_encoded {post : Int32 → Prop} {v f : Int32} {a : Nat → Int32} (H : post (hm_enc v)) : wpX_encoded post (f, a) v := by
  unfold wpX_encoded
  dsimp only
  exact hm_spread (hm_checksOf ⟨5, hm_en 2 (by decide) (by decide) (hm_en 4 (by decide) (by decide) (hm_en 8 (by decide) (by decide) (hm_en 16 (by decide) (by decide) (hm_en5 H))))⟩)
theorem hm_wrongBit {post : Int32 → Prop} {w f : Int32} {a : Nat → Int32} (H : post (hm_wb w)) : wpX_wrongBit post (f, a) w := by
  unfold wpX_wrongBit
  dsimp only
  unfold hm_wb at H
  refine hm_checksOf (hm_isOdd (fun z => br_t rfl ?_) (fun z => br_f (by decide) ?_))
  · rw [if_pos z] at H
    refine br_c (fun y => ?_) (fun y => ?_)
    · rw [if_pos y] at H
      exact H
    · rw [if_neg y] at H
      exact H
  · rw [if_neg z] at H
    refine br_c (fun y => ?_) (fun y => ?_)
    · rw [if_pos y] at H
      exact H
    · rw [if_neg y] at H
      exact H
theorem hm_write {post : Int32 → St2 → Prop} {f : Int32} {a : Nat → Int32} {w v : Nat} (hw : w < 16) (hv : v < 256) (H : post (hm_enc (nI v)) (f, upd a w (hm_enc (nI v)))) : wpX_write post (f, a) (nI w) (nI v) := by
  unfold wpX_write
  dsimp only
  rw [nI_clamp (show w < 2 ^ 31 by omega)]
  refine hm_isWord hw (br_f (by decide) (br_f (nI_pos (by omega)) (br_t (nI_le (a := v) (b := 255) (by omega) (by omega)) (hm_encoded ⟨pk_in w 16 hw, nm_r (e' := upd a w (hm_enc (nI v))) ?_ ⟨pk_in w 16 hw, ?_⟩⟩))))
  · rw [(hm_code v hv).2.2.1]
  · rw [pk_us]
    exact H
theorem hm_flip {post : Int32 → St2 → Prop} {f : Int32} {a : Nat → Int32} {w i : Nat} (y : Int32) (hw : w < 16) (hi : i < 13) (hy : (a w ^^^ hm_f i).toInt16.toInt32 = y) (H : post y (f, upd a w y)) : wpX_flip post (f, a) (nI w) (nI i) := by
  unfold wpX_flip
  dsimp only
  rw [nI_clamp (show w < 2 ^ 31 by omega)]
  refine hm_isWord hw (br_f (by decide) (br_f (nI_pos (by omega)) (br_t (nI_le (a := i) (b := 12) (by omega) (by omega)) ⟨pk_in w 16 hw, pk_in w 16 hw, nm_r (e' := upd a w y) (congrArg (upd a w) hy) ⟨pk_in w 16 hw, ?_⟩⟩)))
  rw [pk_us]
  exact H
/-- read of a code word -/
theorem hm_read1 {post : Int32 → Prop} {f : Int32} {a : Nat → Int32} {w p : Nat} (hw : w < 16) (hp : p < 256) (e : a w = hm_enc (nI p)) (H : post (nI p)) : wpX_read post (f, a) (nI w) := by
  unfold wpX_read
  dsimp only
  rw [nI_clamp (show w < 2 ^ 31 by omega), e]
  refine hm_isWord hw (br_f (by decide) ⟨pk_in w 16 hw, hm_wrongBit ?_⟩)
  rw [hm_wb_good hp]
  refine br_f (by decide) ⟨pk_in w 16 hw, br_t rfl (hm_byteIn ?_)⟩
  rw [(hm_code p hp).2.2.2.1]
  exact H
/-- read of a broken word -/
theorem hm_read2 {post : Int32 → Prop} {f : Int32} {a : Nat → Int32} {w : Nat} (hw : w < 16) (e : hm_wb (a w) = -2) (H : post (-2)) : wpX_read post (f, a) (nI w) := by
  unfold wpX_read
  dsimp only
  rw [nI_clamp (show w < 2 ^ 31 by omega)]
  refine hm_isWord hw (br_f (by decide) ⟨pk_in w 16 hw, hm_wrongBit ?_⟩)
  rw [e]
  exact br_t rfl H
/-- the broken words below k -/
def hm_br (a : Nat → Int32) : Nat → Int32
  | 0 => 0
  | k + 1 => if hm_wb (a k) = -2 then hm_br a k + 1 else hm_br a k
theorem hm_broken {post : Int32 → Prop} {f : Int32} {a : Nat → Int32} (H : post (hm_br a 16)) : wpX_broken post (f, a) :=
  pk_loop (fun n i s => wX_broken_4 post f a n s (nI i)) (fun i s => s = hm_br a i) 16 0 0 (by omega) rfl
    (fun n s h => pk_le 16 16 (fun _ => by rw [h]; exact H) (fun z => absurd z (by omega)))
    (fun n i s hi h hw => pk_le 16 i (fun z => absurd z (by omega)) (fun _ => ⟨pk_in i 16 hi, by
      rw [nI_clamp (show i < 2 ^ 31 by omega)]
      refine hm_wrongBit (br_c (fun z => nm_e (nm_r (nI_1 i) (hw _ ?_))) (fun z => nm_r (nI_1 i) (hw _ ?_)))
      · show s + 1 = if hm_wb (a i) = -2 then hm_br a i + 1 else hm_br a i
        rw [if_pos z, h]
      · show s = if hm_wb (a i) = -2 then hm_br a i + 1 else hm_br a i
        rw [if_neg z, h]⟩))
/-- mix of two code words -/
theorem hm_mix1 {post : Int32 → St2 → Prop} {f : Int32} {a : Nat → Int32} {w v p q : Nat} (hw : w < 16) (hv : v < 16) (hp : p < 256) (hq : q < 256) (e : a w = hm_enc (nI p)) (e' : a v = hm_enc (nI q)) (H : post (nI (p ^^^ q)) (f, upd a v (hm_enc (nI (p ^^^ q))))) : wpX_mix post (f, a) (nI w) (nI v) := by
  unfold wpX_mix
  dsimp only
  rw [nI_clamp (show v < 2 ^ 31 by omega)]
  refine hm_isWord hw (br_f (by decide) (hm_isWord hv (br_f (by decide) (hm_read1 hw hp e (hm_read1 hv hq e' (br_f (hm_n2 p hp) (br_f (hm_n2 q hq) (nm_r (hm_nI p q) (hm_encoded ⟨pk_in v 16 hv, nm_r (e' := upd a v (hm_enc (nI (p ^^^ q)))) ?_ H⟩)))))))))
  rw [(hm_code (p ^^^ q) (hm_xlt hp hq)).2.2.1]
/-- mix of a broken word and a code word -/
theorem hm_mix2 {post : Int32 → St2 → Prop} {f : Int32} {a : Nat → Int32} {w v q : Nat} (hw : w < 16) (hv : v < 16) (hq : q < 256) (e : hm_wb (a w) = -2) (e' : a v = hm_enc (nI q)) (H : post (-2) (f, a)) : wpX_mix post (f, a) (nI w) (nI v) := by
  unfold wpX_mix
  dsimp only
  exact hm_isWord hw (br_f (by decide) (hm_isWord hv (br_f (by decide) (hm_read2 hw e (hm_read1 hv hq e' (br_t rfl H))))))
theorem hm_distance {post : Int32 → Prop} {f : Int32} {a : Nat → Int32} {w v : Nat} (hw : w < 16) (hv : v < 256) (H : post (hm_on (a w ^^^ hm_enc (nI v)) 13)) : wpX_distance post (f, a) (nI w) (nI v) := by
  unfold wpX_distance
  dsimp only
  rw [nI_clamp (show w < 2 ^ 31 by omega)]
  exact hm_isWord hw (br_f (by decide) (br_f (nI_pos (by omega)) (br_t (nI_le (a := v) (b := 255) (by omega) (by omega)) (hm_encoded ⟨pk_in w 16 hw, hm_onesIn H⟩))))
/-- a word that repair leaves as it is -/
def hm_qu (x : Int32) : Prop := (hm_wb x = 13 ∧ x.toInt16.toInt32 = x) ∨ hm_wb x = -2
theorem hm_us (a : Nat → Int32) (w : Nat) : upd a w (a w) = a := by
  funext j
  by_cases h : j = w
  · rw [h, pk_us]
  · rw [pk_un h]
theorem hm_repair {post : Int32 → St2 → Prop} {f : Int32} {a : Nat → Int32} {w : Nat} (hw : w < 16) (h : hm_qu (a w)) (H1 : post 13 (f, a)) (H2 : post (-2) (f, a)) : wpX_repair post (f, a) (nI w) := by
  unfold wpX_repair
  dsimp only
  rw [nI_clamp (show w < 2 ^ 31 by omega)]
  refine hm_isWord hw (br_f (by decide) ⟨pk_in w 16 hw, hm_wrongBit ?_⟩)
  rcases h with ⟨h, h'⟩ | h
  · rw [h]
    refine br_f (by decide) ⟨pk_in w 16 hw, br_t rfl ⟨pk_in w 16 hw, nm_r (e' := a) ?_ H1⟩⟩
    rw [h', hm_us]
  · rw [h]
    exact br_t (by decide) H2
theorem hm_scrub {post : Int32 → St2 → Prop} {a : Nat → Int32} (h : ∀ k, k < 16 → hm_qu (a k)) (H : post 0 (0, a)) : wpX_scrub post (0, a) 16 := by
  refine br_t (by decide) (br_t (by decide) (pk_loop (σ := Unit) (fun n i _ => wX_scrub_26 post 16 n 0 (nI i) (nI (i % 16)) a) (fun _ _ => True) 16 0 () (by omega) trivial ?_ ?_))
  · intro n _ _
    exact pk_le 16 16 (fun _ => H) (fun z => absurd z (by omega))
  · intro n i _ hi _ hw
    have e : nI (i % 16) = nI i := by rw [Nat.mod_eq_of_lt hi]
    have e2 : (nI i + 1) &&& 15 = nI ((i + 1) % 16) := by
      rw [nI_1]
      exact pk_andN (by omega) 4 (by decide)
    have X : wX_scrub_57 post (wX_scrub_26 post 16 n) 16 0 (nI i) (nI i) a := nm_r e2 (nm_r (nI_1 i) (hw () trivial))
    show wX_scrub_26 post 16 (n + 1) 0 (nI i) (nI (i % 16)) a
    rw [e]
    exact pk_le 16 i (fun z => absurd z (by omega)) (fun _ => hm_repair hi (h i hi) (br_f (by decide) (br_t (by decide) X)) (br_t (by decide) X))
end
section
/-- the words of the law: x at 4, y at 9, 0 elsewhere -/
def hm_A (x y : Int32) : Nat → Int32 := fun j => if j = 4 then x else if j = 9 then y else 0
theorem hm_A4 (x y : Int32) : hm_A x y 4 = x := rfl
theorem hm_A9 (x y : Int32) : hm_A x y 9 = y := rfl
theorem hm_A0 (x y : Int32) {j : Nat} (h : j ≠ 4) (h' : j ≠ 9) : hm_A x y j = 0 := by
  unfold hm_A
  rw [if_neg h, if_neg h']
theorem hm_Au4 (x y z : Int32) : upd (hm_A x y) 4 z = hm_A z y := by
  funext j
  by_cases h : j = 4
  · rw [h, pk_us, hm_A4]
  · rw [pk_un h]
    unfold hm_A
    rw [if_neg h, if_neg h]
theorem hm_Au9 (x y z : Int32) : upd (hm_A x y) 9 z = hm_A x z := by
  funext j
  by_cases h : j = 9
  · rw [h, pk_us, hm_A9]
  · rw [pk_un h]
    unfold hm_A
    rw [if_neg h, if_neg h]
theorem hm_Ai (x y : Int32) : upd (upd (fun _ => 0) 4 x) 9 y = hm_A x y := by
  funext j
  by_cases h : j = 9
  · rw [h, pk_us, hm_A9]
  · rw [pk_un h]
    by_cases h' : j = 4
    · rw [h', pk_us, hm_A4]
    · rw [pk_un h', hm_A0 x y h' h]
theorem hm_brA {x y : Int32} (hy : hm_wb y = 13) : hm_br (hm_A x y) 16 = if hm_wb x = -2 then 1 else 0 := by
  have h0 : ∀ k, k ≠ 4 → hm_br (hm_A x y) (k + 1) = hm_br (hm_A x y) k := by
    intro k hk
    have hn : ¬ hm_wb (hm_A x y k) = -2 := by
      by_cases h9 : k = 9
      · rw [h9, hm_A9, hy]
        decide
      · rw [hm_A0 x y hk h9, hm_wb_0]
        decide
    show (if hm_wb (hm_A x y k) = -2 then hm_br (hm_A x y) k + 1 else hm_br (hm_A x y) k) = _
    rw [if_neg hn]
  have h4 : hm_br (hm_A x y) 5 = if hm_wb x = -2 then hm_br (hm_A x y) 4 + 1 else hm_br (hm_A x y) 4 := rfl
  rw [h0 15 (by omega), h0 14 (by omega), h0 13 (by omega), h0 12 (by omega), h0 11 (by omega), h0 10 (by omega), h0 9 (by omega), h0 8 (by omega), h0 7 (by omega), h0 6 (by omega), h0 5 (by omega), h4, h0 3 (by omega), h0 2 (by omega), h0 1 (by omega), h0 0 (by omega)]
  show (if hm_wb x = -2 then (0 : Int32) + 1 else 0) = _
  rfl
theorem hm_quA {x y : Int32} (hx : hm_qu x) (hy : hm_qu y) : ∀ k, k < 16 → hm_qu (hm_A x y k) := by
  intro k _
  by_cases h4 : k = 4
  · rw [h4, hm_A4]
    exact hx
  · by_cases h9 : k = 9
    · rw [h9, hm_A9]
      exact hy
    · rw [hm_A0 x y h4 h9]
      exact Or.inl ⟨hm_wb_0, by decide⟩
theorem hm_quE {k : Nat} (hk : k < 256) : hm_qu (hm_enc (nI k)) := Or.inl ⟨hm_wb_good hk, (hm_code k hk).2.2.1⟩
/-- the same bit turned twice -/
theorem hm_same {post : Int32 → St0 → Prop} {p q i : Nat} (hp : p < 256) (hq : q < 256) (hi : i < 13) (H : post 1 ()) : wL_lawOf_46 post 10 144 (nI p) (nI q) (nI i) (nI i) 1 0 0 := by
  refine ⟨by omega, by omega, 1, 16, by omega, by omega, by omega, by omega, ?_⟩
  refine hm_write (w := 4) (by omega) hp (hm_write (w := 9) (by omega) hq ?_)
  rw [hm_Ai]
  refine br_t (hm_code q hq).2.2.2.2 (hm_flip (w := 4) (hm_enc (nI p) ^^^ hm_f i) (by omega) hi (hm_nar1 hp hi) ?_)
  rw [hm_Au4]
  refine br_t rfl (hm_flip (w := 4) (hm_enc (nI p)) (by omega) hi (by rw [hm_A4, hm_back]; exact (hm_code p hp).2.2.1) ?_)
  rw [hm_Au4]
  refine br_f (by decide) (br_t rfl (hm_read1 (w := 4) (by omega) hp rfl (br_f (by decide) (br_t rfl (hm_broken ?_)))))
  rw [hm_brA (hm_wb_good hq), if_neg (by rw [hm_wb_good hp]; decide)]
  refine br_f (by decide) (br_t rfl (hm_mix1 (w := 4) (v := 9) (by omega) (by omega) hp hq rfl rfl ?_))
  rw [hm_Au9]
  refine br_f (by decide) (br_t (hm_nI p q).symm (hm_read1 (w := 9) (by omega) (hm_xlt hp hq) rfl (br_f (by decide) (br_t (hm_nI p q).symm (hm_distance (w := 4) (by omega) hp ?_)))))
  rw [hm_A4, Int32.xor_self, hm_on0]
  refine br_f (by decide) (br_t rfl (hm_scrub (hm_quA (hm_quE hp) (hm_quE (hm_xlt hp hq))) (br_t rfl H)))
/-- two bits turned -/
theorem hm_diff {post : Int32 → St0 → Prop} {p q i j : Nat} (hp : p < 256) (hq : q < 256) (hi : i < 13) (hj : j < 13) (hij : i ≠ j) (H : post 1 ()) : wL_lawOf_46 post 10 144 (nI p) (nI q) (nI i) (nI j) 0 0 0 := by
  have hb : hm_wb ((hm_enc (nI p) ^^^ hm_f i) ^^^ hm_f j) = -2 := hm_wb_bad hp hi hj hij
  refine ⟨by omega, by omega, 1, 16, by omega, by omega, by omega, by omega, ?_⟩
  refine hm_write (w := 4) (by omega) hp (hm_write (w := 9) (by omega) hq ?_)
  rw [hm_Ai]
  refine br_t (hm_code q hq).2.2.2.2 (hm_flip (w := 4) (hm_enc (nI p) ^^^ hm_f i) (by omega) hi (hm_nar1 hp hi) ?_)
  rw [hm_Au4]
  refine br_t rfl (hm_flip (w := 4) ((hm_enc (nI p) ^^^ hm_f i) ^^^ hm_f j) (by omega) hj (hm_nar2 hp hi hj) ?_)
  rw [hm_Au4]
  refine br_t rfl (br_t rfl (hm_read2 (w := 4) (by omega) hb (br_t rfl (br_t rfl (hm_broken ?_)))))
  rw [hm_brA (hm_wb_good hq), if_pos hb]
  refine br_t rfl (br_t rfl (hm_mix2 (w := 4) (v := 9) (by omega) (by omega) hq hb rfl ?_))
  refine br_t rfl (br_t rfl (hm_read1 (w := 9) (by omega) hq rfl (br_t rfl (br_t rfl (hm_distance (w := 4) (by omega) hp ?_)))))
  rw [hm_A4, hm_dist hi hj hij]
  exact br_t rfl (br_t rfl (hm_scrub (hm_quA (Or.inr hb) (hm_quE hq)) (br_t rfl H)))
theorem hm_cell {post : Int32 → Prop} {L : Nat} {xs : Nat → Int32} (k : Nat) (hL : L ≤ 4) (hk : k < 4) (H : ∀ r, post r) : wpL_cellAt post L xs () (nI k) :=
  pk_le L k (fun _ => H 0) (fun z => ⟨pk_in k L z, H _⟩)
theorem hm_lawOf {post : Int32 → St0 → Prop} (p0 p1 p2 p3 : Int32) (H : post 1 ()) : wpL_lawOf post 10 144 () p0 p1 p2 p3 := by
  obtain ⟨p, hp, ep⟩ := pk_andE p0 (m := 255) 8 (by decide)
  obtain ⟨q, hq, eq⟩ := pk_andE p1 (m := 255) 8 (by decide)
  obtain ⟨a, ha, ea⟩ := pk_andE p2 (m := 255) 8 (by decide)
  obtain ⟨b, hb, eb⟩ := pk_andE p3 (m := 255) 8 (by decide)
  have ra : nI a - nI a / 13 * 13 = nI (a % 13) := pk_rem (a := a) (d := 13) (by omega) (by omega) (by omega)
  have rb : nI b - nI b / 13 * 13 = nI (b % 13) := pk_rem (a := b) (d := 13) (by omega) (by omega) (by omega)
  unfold wpL_lawOf
  rw [ep, eq, ea, eb, ra, rb]
  refine nm_e (nm_e ⟨by decide, nm_e ⟨by decide, nm_e ?_⟩⟩)
  refine pk_eq (a % 13) (b % 13) (fun z => ?_) (fun z => hm_diff hp hq (Nat.mod_lt a (by omega)) (Nat.mod_lt b (by omega)) z H)
  rw [← z]
  exact hm_same hp hq (Nat.mod_lt a (by omega)) H
theorem i_vc (xs : Nat → Int32) (L : Nat) (hL : L ≤ 4) : wpL_law (fun r => r = 1) L xs :=
  hm_cell 0 hL (by omega) (fun r1 => hm_cell 1 hL (by omega) (fun r2 => hm_cell 2 hL (by omega) (fun r3 => hm_cell 3 hL (by omega) (fun r4 => ⟨10, 144, by omega, by omega, hm_lawOf r1 r2 r3 r4 rfl⟩))))
end
