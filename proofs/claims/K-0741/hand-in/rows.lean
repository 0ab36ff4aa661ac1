section
def bt (x : Int32) (i : Nat) : Bool := x.toBitVec.getLsbD i
theorem b_ext {x y : Int32} (h : ∀ i, i < 32 → bt x i = bt y i) : x = y := Int32.toBitVec_inj.mp (BitVec.eq_of_getLsbD_eq (fun i hi => h i hi))
theorem b_or (x y : Int32) (i : Nat) : bt (x ||| y) i = (bt x i || bt y i) := by unfold bt; rw [Int32.toBitVec_or, BitVec.getLsbD_or]
theorem b_and (x y : Int32) (i : Nat) : bt (x &&& y) i = (bt x i && bt y i) := by unfold bt; rw [Int32.toBitVec_and, BitVec.getLsbD_and]
theorem b_xor (x y : Int32) (i : Nat) : bt (x ^^^ y) i = (bt x i ^^ bt y i) := by unfold bt; rw [Int32.toBitVec_xor, BitVec.getLsbD_xor]
theorem b_big {x : Int32} {i : Nat} (h : 32 ≤ i) : bt x i = false := BitVec.getLsbD_of_ge _ _ h
theorem b_255 (i : Nat) : bt 255 i = decide (i < 8) := by
  rcases Nat.lt_or_ge i 32 with h | h
  · exact (by decide +kernel : ∀ i, i < 32 → bt 255 i = decide (i < 8)) i h
  · rw [b_big h, decide_eq_false (by omega)]
theorem b_m1 : ∀ i, i < 32 → bt (-1) i = true := by decide +kernel
theorem b_0 (i : Nat) : bt 0 i = false := BitVec.getLsbD_zero
theorem bp_b (x : Int32) : x.toInt8.toInt32 &&& 255 = x &&& 255 := by
  apply Int32.toBitVec_inj.mp
  rw [Int32.toBitVec_and, Int32.toBitVec_and, Int8.toBitVec_toInt32, Int32.toBitVec_toInt8]
  apply BitVec.eq_of_getLsbD_eq
  intro i hi
  rw [BitVec.getLsbD_and, BitVec.getLsbD_and]
  have hm : ∀ i < 32, 8 ≤ i → (255 : Int32).toBitVec.getLsbD i = false := by decide
  rcases Nat.lt_or_ge i 8 with z | z
  · rw [BitVec.getLsbD_signExtend, BitVec.getLsbD_signExtend, if_pos z, if_pos hi]
    simp only [z, hi, decide_true, Bool.true_and]
  · rw [hm i hi z]; simp
theorem pk_us {f : Nat → Int32} {k : Nat} {x : Int32} : upd f k x k = x := if_pos rfl
theorem pk_un {f : Nat → Int32} {k j : Nat} {x : Int32} (h : j ≠ k) : upd f k x j = f j := if_neg h
theorem pk_tn {n : Nat} (h : n < 2 ^ 32) : (nI n).toBitVec.toNat = n := Nat.mod_eq_of_lt h
theorem pk_and (x : Int32) {m : Int32} (k : Nat) (hm : m.toBitVec.toNat = 2 ^ k - 1) : x &&& m = nI (x.toBitVec.toNat % 2 ^ k) := by
  apply Int32.toBitVec_inj.mp
  apply BitVec.eq_of_toNat_eq
  rw [Int32.toBitVec_and, BitVec.toNat_and, hm, Nat.and_two_pow_sub_one_eq_mod]
  show _ = (BitVec.ofNat 32 _).toNat
  rw [BitVec.toNat_ofNat]
  exact (Nat.mod_eq_of_lt (Nat.lt_of_le_of_lt (Nat.mod_le _ _) x.toBitVec.isLt)).symm
/-! ===== the null bitmap's cells and masks, for the attributes 0 .. 9 ===== -/
theorem nb_cell : ∀ j, j < 10 → nI j >>> ((3 : Int32) &&& 31) = nI (j / 8) := by decide +kernel
theorem nb_mask : ∀ j, j < 10 → ∀ t, t < 32 → bt ((1 : Int32) <<< ((nI j &&& 7) &&& 31)) t = decide (t = j % 8) := by decide +kernel
theorem nb_bit (y : Int32) {j : Nat} (hj : j < 10) : ((y &&& 255) &&& ((1 : Int32) <<< ((nI j &&& 7) &&& 31))) = 0 ↔ bt y (j % 8) = false := by
  have h8 : j % 8 < 8 := Nat.mod_lt _ (by decide)
  constructor
  · intro h
    have e := congrArg (fun z => bt z (j % 8)) h
    rw [b_and, b_and, b_255, nb_mask j hj _ (by omega), b_0, decide_eq_true h8, decide_eq_true rfl, Bool.and_true, Bool.and_true] at e
    exact e
  · intro h
    apply b_ext
    intro t ht
    rw [b_and, b_and, b_255, nb_mask j hj t ht, b_0]
    by_cases e : t = j % 8
    · rw [e, h, Bool.false_and, Bool.false_and]
    · rw [decide_eq_false e, Bool.and_false]
theorem nb_low (x : Int32) {t : Nat} (ht : t < 8) : bt x.toInt8.toInt32 t = bt x t := by
  have e := congrArg (fun z => bt z t) (bp_b x)
  rw [b_and, b_and, b_255, decide_eq_true ht, Bool.and_true, Bool.and_true] at e
  exact e
theorem nb_or (y : Int32) {j : Nat} (hj : j < 10) {t : Nat} (ht : t < 8) : bt (((y &&& 255) ||| ((1 : Int32) <<< ((nI j &&& 7) &&& 31))).toInt8.toInt32) t = (bt y t || decide (t = j % 8)) := by
  rw [nb_low _ ht, b_or, b_and, b_255, nb_mask j hj t (by omega), decide_eq_true ht, Bool.and_true]
theorem nb_clr (y : Int32) {j : Nat} (hj : j < 10) {t : Nat} (ht : t < 8) : bt (((y &&& 255) &&& (((1 : Int32) <<< ((nI j &&& 7) &&& 31)) ^^^ (-1))).toInt8.toInt32) t = (bt y t && !decide (t = j % 8)) := by
  rw [nb_low _ ht, b_and, b_and, b_255, b_xor, nb_mask j hj t (by omega), b_m1 t (by omega), decide_eq_true ht, Bool.and_true, Bool.xor_true]
theorem nb_in2 {j : Nat} (hj : j < 10) : vp_in (nI j >>> ((3 : Int32) &&& 31)) 2 := by
  rw [nb_cell j hj]; exact vp_in_nI (by omega) (by omega)
theorem nb_bitc (b : Nat → Int32) {j : Nat} (hj : j < 10) : (((b (nI j >>> ((3 : Int32) &&& 31)).toNatClampNeg) &&& 255) &&& ((1 : Int32) <<< ((nI j &&& 7) &&& 31))) = 0 ↔ bt (b (j / 8)) (j % 8) = false := by
  rw [nb_cell j hj, nI_clamp (by omega)]; exact nb_bit _ hj
/-! ===== the two alignments are one ===== -/
theorem nb_nand (y m : Int32) : y &&& (m ^^^ (-1)) = y - (y &&& m) := by
  have h : (y &&& (m ^^^ (-1))) + (y &&& m) = y := by
    apply Int32.toBitVec_inj.mp
    rw [Int32.toBitVec_add]
    rw [BitVec.add_eq_or_of_and_eq_zero]
    · rw [← Int32.toBitVec_or]
      apply congrArg
      apply b_ext
      intro t ht
      rw [b_or, b_and, b_and, b_xor, b_m1 t ht]
      cases bt y t <;> cases bt m t <;> rfl
    · rw [← Int32.toBitVec_and]
      show _ = (0 : Int32).toBitVec
      apply congrArg
      apply b_ext
      intro t ht
      rw [b_and, b_and, b_and, b_xor, b_m1 t ht, b_0]
      cases bt y t <;> cases bt m t <;> rfl
  have e : (y &&& (m ^^^ (-1))) + (y &&& m) - (y &&& m) = y - (y &&& m) := by rw [h]
  rw [Int32.add_sub_cancel] at e
  exact e
def nb_al (x w : Int32) : Int32 := x + ((-x) &&& (w - 1))
def nb_W (w : Nat → Int32) : Prop := ∀ i, i < 10 → (w i = 0 ∨ w i = 1 ∨ w i = 2 ∨ w i = 4 ∨ w i = 8)
theorem nb_sub (x y : Int32) : (x - y).toBitVec.toNat = (4294967296 - y.toBitVec.toNat + x.toBitVec.toNat) % 4294967296 := by
  rw [Int32.toBitVec_sub, BitVec.toNat_sub]
theorem nb_add (x y : Int32) : (x + y).toBitVec.toNat = (x.toBitVec.toNat + y.toBitVec.toNat) % 4294967296 := by
  rw [Int32.toBitVec_add, BitVec.toNat_add]
theorem nb_neg (x : Int32) : (-x).toBitVec.toNat = (4294967296 - x.toBitVec.toNat) % 4294967296 := by
  rw [Int32.toBitVec_neg, BitVec.toNat_neg]
theorem nb_al0 (x : Int32) : ((x + 0) - 1) &&& (((0 : Int32) - 1) ^^^ (-1)) = nb_al x 0 := by
  have a1 : ∀ y : Int32, y &&& ((0 : Int32) - 1) = y := by
    intro y
    apply b_ext
    intro t ht
    rw [b_and, show ((0 : Int32) - 1) = -1 from by decide, b_m1 t ht, Bool.and_true]
  unfold nb_al
  rw [nb_nand, a1, a1, Int32.sub_self, Int32.add_right_neg]
theorem nb_alk (x w m : Int32) (k q : Nat) (hq : q = 2 ^ k) (h1 : q = 1 ∨ q = 2 ∨ q = 4 ∨ q = 8) (hw : w.toBitVec.toNat = q) (hm : w - 1 = m) (hn : m.toBitVec.toNat = 2 ^ k - 1) : ((x + w) - 1) &&& ((w - 1) ^^^ (-1)) = nb_al x w := by
  unfold nb_al
  rw [nb_nand, hm, pk_and _ k hn, pk_and _ k hn, ← hq]
  apply Int32.toBitVec_inj.mp
  apply BitVec.eq_of_toNat_eq
  have o1 : (1 : Int32).toBitVec.toNat = 1 := by decide
  have hx : x.toBitVec.toNat < 4294967296 := x.toBitVec.isLt
  have p0 : 0 < q := by omega
  have l1 := Nat.mod_lt ((x + w) - 1).toBitVec.toNat p0
  have l2 := Nat.mod_lt (-x).toBitVec.toNat p0
  rw [nb_sub, nb_add, pk_tn (by omega), pk_tn (by omega), nb_sub, nb_add, nb_neg, hw, o1]
  generalize x.toBitVec.toNat = a at hx
  clear l1 l2 hw hm hn o1 hq
  rcases h1 with rfl | rfl | rfl | rfl <;> omega
theorem nb_alx (x : Int32) {w : Int32} (h : w = 0 ∨ w = 1 ∨ w = 2 ∨ w = 4 ∨ w = 8) : ((x + w) - 1) &&& ((w - 1) ^^^ (-1)) = nb_al x w := by
  rcases h with rfl | rfl | rfl | rfl | rfl
  · exact nb_al0 x
  · exact nb_alk x 1 0 0 1 (by decide) (by decide) (by decide) (by decide) (by decide)
  · exact nb_alk x 2 1 1 2 (by decide) (by decide) (by decide) (by decide) (by decide)
  · exact nb_alk x 4 3 2 4 (by decide) (by decide) (by decide) (by decide) (by decide)
  · exact nb_alk x 8 7 3 8 (by decide) (by decide) (by decide) (by decide) (by decide)
end
section
/-! ===== the relation ===== -/
def nb_P (b p : Nat → Int32) : Prop := ∀ i, i < 10 → (p i = 0 ∧ bt (b (i / 8)) (i % 8) = false) ∨ (p i = 1 ∧ bt (b (i / 8)) (i % 8) = true)
/-- one count, one array of widths (each 0, 1, 2, 4 or 8), and the bits of the bitmap's cells are the reference's flags -/
def i_Rel (_ : Nat) (u : SX) (v : SY) : Prop := ∃ (m : Nat) (b w p : Nat → Int32), m ≤ 10 ∧ u = (nI m, b, w) ∧ v = (nI m, w, p) ∧ nb_W w ∧ nb_P b p
theorem i_up {k : Nat} {u : SX} {v : SY} (h : i_Rel k u v) : i_Rel (k + 3) u v := h
theorem nb_rel {k m : Nat} {b w p : Nat → Int32} (h : m ≤ 10) (hW : nb_W w) (hP : nb_P b p) : i_Rel k (nI m, b, w) (nI m, w, p) := ⟨m, b, w, p, h, rfl, rfl, hW, hP⟩
theorem nb_rel0 {k m : Nat} (h : m ≤ 10) : i_Rel k (nI m, (fun _ => 0), (fun _ => 0)) (nI m, (fun _ => 0), (fun _ => 0)) := nb_rel h (fun _ _ => Or.inl rfl) (fun _ _ => Or.inl ⟨rfl, b_0 _⟩)
theorem i_vc0 (k0 : Int32) : wpX_init (fun u => wpY_init (fun v => i_Rel 1 u v) k0) k0 := by
  by_cases h1 : 1 ≤ k0
  · by_cases h2 : k0 ≤ 10
    · have h0 : ¬ k0 < 0 := Int32.not_lt.mpr (Int32.le_trans (by decide) h1)
      obtain ⟨m, hm, rfl⟩ := nI_of2 (M := 10) (n := 10) (by decide) h0 h2
      exact br_t h1 (br_t h2 (br_t h1 (br_t h2 (nb_rel0 hm))))
    · exact br_t h1 (br_f h2 (br_t h1 (br_f h2 (nb_rel0 (m := 10) (by decide)))))
  · exact br_f h1 (br_t (by decide) (br_f h1 (nb_rel0 (m := 1) (by decide))))
/-! ===== setWidth ===== -/
theorem nb_byte {w : Int32} (h : w = 1 ∨ w = 2 ∨ w = 4 ∨ w = 8) : vp_nar .byte w.toInt8.toInt32 = w := by
  rw [vp_nar_byte]
  rcases h with rfl | rfl | rfl | rfl <;> decide
theorem nb_char {w : Int32} (h : w = 1 ∨ w = 2 ∨ w = 4 ∨ w = 8) : vp_nar .char (w.toUInt32 % 65536).toInt32 = w := by
  rw [vp_nar_char]
  rcases h with rfl | rfl | rfl | rfl <;> decide
theorem nb_updW {w : Nat → Int32} {j : Nat} {x : Int32} (hW : nb_W w) (h : x = 1 ∨ x = 2 ∨ x = 4 ∨ x = 8) : nb_W (upd w j x) := by
  intro i hi
  by_cases e : i = j
  · rw [e, pk_us]; exact Or.inr h
  · rw [pk_un e]; exact hW i hi
theorem nb_X38 (post : Int32 → SX → Prop) {j : Nat} (hj : j < 10) {x : Int32} (h : x = 1 ∨ x = 2 ∨ x = 4 ∨ x = 8) (f : Int32) (b w : Nat → Int32) (hp : post 0 (f, b, upd w j x)) : wX_setWidth_38 post (nI j) x f b w :=
  And.intro (vp_in_nI hj (by decide)) (nm_r (e' := upd w j x) (by rw [nI_clamp (by omega), nb_byte h]) hp)
theorem nb_Y38 (post : Int32 → SY → Prop) {j : Nat} (hj : j < 10) {x : Int32} (h : x = 1 ∨ x = 2 ∨ x = 4 ∨ x = 8) (f : Int32) (w p : Nat → Int32) (hp : post 0 (f, upd w j x, p)) : wY_setWidth_38 post (nI j) x f w p :=
  And.intro (vp_in_nI hj (by decide)) (nm_r (e' := upd w j x) (by rw [nI_clamp (by omega), nb_char h]) hp)
theorem i_vc_setWidth {k : Nat} {u : SX} {v : SY} (I : i_Rel k u v) (hk : k + 3 ≤ 1537) (v1 : Int32) (v2 : Int32) : wpX_setWidth (fun r u' => wpY_setWidth (fun r' v' => r' = r ∧ i_Rel (k + 3) u' v') v v1 v2) u v1 v2 := by
  obtain ⟨m, b, w, p, hm, rfl, rfl, hW, hP⟩ := I
  by_cases h0 : v1 < 0
  · exact br_t h0 (br_t h0 ⟨rfl, nb_rel hm hW hP⟩)
  by_cases hn : v1 < nI m
  · obtain ⟨j, hj, rfl⟩ := nI_of h0
    have jm : j < m := (nI_ltI hj (by omega)).mp hn
    have j10 : j < 10 := by omega
    by_cases e1 : v2 = 1
    · have h : v2 = 1 ∨ v2 = 2 ∨ v2 = 4 ∨ v2 = 8 := Or.inl e1
      exact br_f h0 (br_t hn (br_t e1 (nb_X38 _ j10 h _ _ _ (br_f h0 (br_t hn (br_t e1 (nb_Y38 _ j10 h _ _ _ ⟨rfl, nb_rel hm (nb_updW hW h) hP⟩)))))))
    by_cases e2 : v2 = 2
    · have h : v2 = 1 ∨ v2 = 2 ∨ v2 = 4 ∨ v2 = 8 := Or.inr (Or.inl e2)
      exact br_f h0 (br_t hn (br_f e1 (br_t e2 (nb_X38 _ j10 h _ _ _ (br_f h0 (br_t hn (br_f e1 (br_t e2 (nb_Y38 _ j10 h _ _ _ ⟨rfl, nb_rel hm (nb_updW hW h) hP⟩)))))))))
    by_cases e4 : v2 = 4
    · have h : v2 = 1 ∨ v2 = 2 ∨ v2 = 4 ∨ v2 = 8 := Or.inr (Or.inr (Or.inl e4))
      exact br_f h0 (br_t hn (br_f e1 (br_f e2 (br_t e4 (nb_X38 _ j10 h _ _ _ (br_f h0 (br_t hn (br_f e1 (br_f e2 (br_t e4 (nb_Y38 _ j10 h _ _ _ ⟨rfl, nb_rel hm (nb_updW hW h) hP⟩)))))))))))
    by_cases e8 : v2 = 8
    · have h : v2 = 1 ∨ v2 = 2 ∨ v2 = 4 ∨ v2 = 8 := Or.inr (Or.inr (Or.inr e8))
      exact br_f h0 (br_t hn (br_f e1 (br_f e2 (br_f e4 (br_t e8 (nb_X38 _ j10 h _ _ _ (br_f h0 (br_t hn (br_f e1 (br_f e2 (br_f e4 (br_t e8 (nb_Y38 _ j10 h _ _ _ ⟨rfl, nb_rel hm (nb_updW hW h) hP⟩)))))))))))))
    · exact br_f h0 (br_t hn (br_f e1 (br_f e2 (br_f e4 (br_f e8 (br_f h0 (br_t hn (br_f e1 (br_f e2 (br_f e4 (br_f e8 ⟨rfl, nb_rel hm hW hP⟩)))))))))))
  · exact br_f h0 (br_f hn (br_f h0 (br_f hn ⟨rfl, nb_rel hm hW hP⟩)))
end
section
/-! ===== setNull ===== -/
theorem nb_P1 {b p : Nat → Int32} (hP : nb_P b p) {j : Nat} (hj : j < 10) : nb_P (upd b (j / 8) (((b (j / 8) &&& 255) ||| ((1 : Int32) <<< ((nI j &&& 7) &&& 31))).toInt8.toInt32)) (upd p j 1) := by
  intro i hi
  by_cases e : i / 8 = j / 8
  · rw [e, pk_us, nb_or _ hj (Nat.mod_lt _ (by decide))]
    by_cases d : i = j
    · right
      rw [d, pk_us, decide_eq_true rfl, Bool.or_true]
      exact ⟨rfl, rfl⟩
    · have hd : ¬ i % 8 = j % 8 := by omega
      rw [pk_un d, decide_eq_false hd, Bool.or_false, ← e]
      exact hP i hi
  · have d : i ≠ j := fun z => e (by rw [z])
    rw [pk_un e, pk_un d]
    exact hP i hi
theorem nb_P0 {b p : Nat → Int32} (hP : nb_P b p) {j : Nat} (hj : j < 10) : nb_P (upd b (j / 8) (((b (j / 8) &&& 255) &&& (((1 : Int32) <<< ((nI j &&& 7) &&& 31)) ^^^ (-1))).toInt8.toInt32)) (upd p j 0) := by
  intro i hi
  by_cases e : i / 8 = j / 8
  · rw [e, pk_us, nb_clr _ hj (Nat.mod_lt _ (by decide))]
    by_cases d : i = j
    · left
      rw [d, pk_us, decide_eq_true rfl, Bool.not_true, Bool.and_false]
      exact ⟨rfl, rfl⟩
    · have hd : ¬ i % 8 = j % 8 := by omega
      rw [pk_un d, decide_eq_false hd, Bool.not_false, Bool.and_true, ← e]
      exact hP i hi
  · have d : i ≠ j := fun z => e (by rw [z])
    rw [pk_un e, pk_un d]
    exact hP i hi
theorem nb_vb (z : Int32) : vp_nar .byte z.toInt8.toInt32 = z.toInt8.toInt32 := by
  rw [vp_nar_byte]; simp
/-- the component's setNull behind its two refusals: what is asked of each of its four ends -/
theorem nb_Xnull (post : Int32 → SX → Prop) {m j : Nat} (b w : Nat → Int32) (f : Int32) (hm : m ≤ 10) (jm : j < m) (hw : ¬ w j = 0)
    (h1 : bt (b (j / 8)) (j % 8) = false → f = 0 → post 1 (nI m, upd b (j / 8) (((b (j / 8) &&& 255) ||| ((1 : Int32) <<< ((nI j &&& 7) &&& 31))).toInt8.toInt32), w))
    (h2 : bt (b (j / 8)) (j % 8) = false → ¬ f = 0 → post 0 (nI m, b, w))
    (h3 : ¬ bt (b (j / 8)) (j % 8) = false → f = 0 → post 0 (nI m, b, w))
    (h4 : ¬ bt (b (j / 8)) (j % 8) = false → ¬ f = 0 → post 1 (nI m, upd b (j / 8) (((b (j / 8) &&& 255) &&& (((1 : Int32) <<< ((nI j &&& 7) &&& 31)) ^^^ (-1))).toInt8.toInt32), w)) :
    wpX_setNull post (nI m, b, w) (nI j) f := by
  have j10 : j < 10 := by omega
  have h0 : ¬ nI j < 0 := nI_pos (by omega)
  have hn : nI j < nI m := nI_lt jm (by omega)
  have hz : ¬ w (nI j).toNatClampNeg = 0 := by rw [nI_clamp (by omega)]; exact hw
  have hi : vp_in (nI j) 10 := vp_in_nI j10 (by decide)
  have h8 : vp_in (nI (j / 8)) 2 := vp_in_nI (by omega) (by decide)
  have ec : (nI (j / 8)).toNatClampNeg = j / 8 := nI_clamp (by omega)
  have e5 : b (nI (j / 8)).toNatClampNeg &&& 255 = b (j / 8) &&& 255 := by rw [ec]
  by_cases hb : bt (b (j / 8)) (j % 8) = false
  · have hz0 := (nb_bit (b (j / 8)) j10).mpr hb
    by_cases hf : f = 0
    · exact br_f h0 (br_t hn (And.intro hi (br_f hz (nm_r (nb_cell j j10) (nm_e (And.intro h8 (nm_r e5 (br_t hz0 (br_t hf (br_t rfl (And.intro h8 (nm_r (by rw [ec, nb_vb]) (h1 hb hf)))))))))))))
    · exact br_f h0 (br_t hn (And.intro hi (br_f hz (nm_r (nb_cell j j10) (nm_e (And.intro h8 (nm_r e5 (br_t hz0 (br_f hf (br_t rfl (h2 hb hf)))))))))))
  · have hz1 := fun q => hb ((nb_bit (b (j / 8)) j10).mp q)
    by_cases hf : f = 0
    · exact br_f h0 (br_t hn (And.intro hi (br_f hz (nm_r (nb_cell j j10) (nm_e (And.intro h8 (nm_r e5 (br_f hz1 (br_t hf (br_f (by decide) (h3 hb hf)))))))))))
    · exact br_f h0 (br_t hn (And.intro hi (br_f hz (nm_r (nb_cell j j10) (nm_e (And.intro h8 (nm_r e5 (br_f hz1 (br_f hf (br_f (by decide) (And.intro h8 (nm_r (by rw [ec, nb_vb]) (h4 hb hf)))))))))))))
theorem nb_Ynull (post : Int32 → SY → Prop) {m j : Nat} (w p : Nat → Int32) (f : Int32) (hm : m ≤ 10) (jm : j < m) (hw : ¬ w j = 0)
    (hp : p j = 0 ∨ p j = 1)
    (h1 : p j = 0 → f = 0 → post 1 (nI m, w, upd p j 1))
    (h2 : p j = 0 → ¬ f = 0 → post 0 (nI m, w, p))
    (h3 : p j = 1 → f = 0 → post 0 (nI m, w, p))
    (h4 : p j = 1 → ¬ f = 0 → post 1 (nI m, w, upd p j 0)) :
    wpY_setNull post (nI m, w, p) (nI j) f := by
  have j10 : j < 10 := by omega
  have h0 : ¬ nI j < 0 := nI_pos (by omega)
  have hn : nI j < nI m := nI_lt jm (by omega)
  have ec : (nI j).toNatClampNeg = j := nI_clamp (by omega)
  have hz : ¬ w (nI j).toNatClampNeg = 0 := by rw [ec]; exact hw
  have hi : vp_in (nI j) 10 := vp_in_nI j10 (by decide)
  have z01 : ¬ (0 : Int32) = 1 := by decide
  have z10 : ¬ (1 : Int32) = 0 := by decide
  have n1 : vp_nar .boolean 1 = 1 := rfl
  have n0 : vp_nar .boolean 0 = 0 := rfl
  rcases hp with q | q
  · have qc : p (nI j).toNatClampNeg = 0 := by rw [ec]; exact q
    by_cases hf : f = 0
    · exact br_f h0 (br_t hn (And.intro hi (br_f hz (And.intro hi (br_t hf (br_f (by rw [qc]; exact z01) (br_t hf (And.intro hi (nm_r (by rw [ec, n1]) (h1 q hf))))))))))
    · exact br_f h0 (br_t hn (And.intro hi (br_f hz (And.intro hi (br_f hf (br_t qc (h2 q hf)))))))
  · have qc : p (nI j).toNatClampNeg = 1 := by rw [ec]; exact q
    by_cases hf : f = 0
    · exact br_f h0 (br_t hn (And.intro hi (br_f hz (And.intro hi (br_t hf (br_t qc (h3 q hf)))))))
    · exact br_f h0 (br_t hn (And.intro hi (br_f hz (And.intro hi (br_f hf (br_f (by rw [qc]; exact z10) (br_f hf (And.intro hi (nm_r (by rw [ec, n0]) (h4 q hf))))))))))
theorem i_vc_setNull {k : Nat} {u : SX} {v : SY} (I : i_Rel k u v) (hk : k + 3 ≤ 1537) (v1 : Int32) (v2 : Int32) : wpX_setNull (fun r u' => wpY_setNull (fun r' v' => r' = r ∧ i_Rel (k + 3) u' v') v v1 (lw_bz v2)) u v1 (lw_bz v2) := by
  obtain ⟨m, b, w, p, hm, rfl, rfl, hW, hP⟩ := I
  by_cases h0 : v1 < 0
  · exact br_t h0 (br_t h0 ⟨rfl, nb_rel hm hW hP⟩)
  by_cases hn : v1 < nI m
  · obtain ⟨j, hj, rfl⟩ := nI_of h0
    have jm : j < m := (nI_ltI hj (by omega)).mp hn
    have j10 : j < 10 := by omega
    have hi : vp_in (nI j) 10 := vp_in_nI j10 (by decide)
    by_cases hw : w j = 0
    · have hz : w (nI j).toNatClampNeg = 0 := by rw [nI_clamp hj]; exact hw
      exact br_f h0 (br_t hn (And.intro hi (br_t hz (br_f h0 (br_t hn (And.intro hi (br_t hz ⟨rfl, nb_rel hm hW hP⟩)))))))
    · generalize lw_bz v2 = f
      have t01 : ¬ (0 : Int32) = 1 := by decide
      have t10 : ¬ (1 : Int32) = 0 := by decide
      have hp : p j = 0 ∨ p j = 1 := (hP j j10).elim (fun z => Or.inl z.1) (fun z => Or.inr z.1)
      have hb0 : bt (b (j / 8)) (j % 8) = false → p j = 0 := fun z => (hP j j10).elim (fun y => y.1) (fun y => absurd (y.2.symm.trans z) (by decide))
      have hb1 : ¬ bt (b (j / 8)) (j % 8) = false → p j = 1 := fun z => (hP j j10).elim (fun y => absurd y.2 z) (fun y => y.1)
      refine nb_Xnull _ b w f hm jm hw ?_ ?_ ?_ ?_
      · intro hb hf
        have q := hb0 hb
        exact nb_Ynull _ w p f hm jm hw hp (fun _ _ => ⟨rfl, nb_rel hm hW (nb_P1 hP j10)⟩) (fun _ z => absurd hf z) (fun z _ => absurd (q.symm.trans z) t01) (fun _ z => absurd hf z)
      · intro hb hf
        have q := hb0 hb
        exact nb_Ynull _ w p f hm jm hw hp (fun _ z => absurd z hf) (fun _ _ => ⟨rfl, nb_rel hm hW hP⟩) (fun _ z => absurd z hf) (fun z _ => absurd (q.symm.trans z) t01)
      · intro hb hf
        have q := hb1 hb
        exact nb_Ynull _ w p f hm jm hw hp (fun z _ => absurd (q.symm.trans z) t10) (fun _ z => absurd hf z) (fun _ _ => ⟨rfl, nb_rel hm hW hP⟩) (fun _ z => absurd hf z)
      · intro hb hf
        have q := hb1 hb
        exact nb_Ynull _ w p f hm jm hw hp (fun _ z => absurd z hf) (fun z _ => absurd (q.symm.trans z) t10) (fun _ z => absurd z hf) (fun _ _ => ⟨rfl, nb_rel hm hW (nb_P0 hP j10)⟩)
  · exact br_f h0 (br_f hn (br_f h0 (br_f hn ⟨rfl, nb_rel hm hW hP⟩)))
end
section
/-! ===== offsetOf and dataSize: the two walks in lockstep ===== -/
theorem nb_ds {b w p : Nat → Int32} (hW : nb_W w) (hP : nb_P b p) {m : Nat} (hm : m ≤ 10) (g : Int32) : ∀ d j : Nat, j + d = m → ∀ x : Int32, ∃ r : Int32, (∀ post : Int32 → Prop, post r → wX_dataSize_4 post (nI m) b w (d + 1) x (nI j)) ∧ (∀ post : Int32 → Prop, post r → wY_walk_4 post (nI m) g w p (d + 1) x (nI j)) := by
  intro d
  induction d with
  | zero =>
    intro j hj x
    have h : nI m ≤ nI j := nI_le (by omega) (by omega)
    exact ⟨x, fun _ hp => br_t h hp, fun _ hp => br_t h hp⟩
  | succ d ih =>
    intro j hj x
    have j10 : j < 10 := by omega
    have h : ¬ nI m ≤ nI j := nI_ge (by omega) (by omega)
    have hi : vp_in (nI j) 10 := vp_in_nI j10 (by decide)
    have h2 := nb_in2 j10
    have ec : (nI j).toNatClampNeg = j := nI_clamp (by omega)
    have ew : w (nI j).toNatClampNeg = w j := by rw [ec]
    rcases hP j j10 with ⟨hp, hb⟩ | ⟨hp, hb⟩
    · have zx := (nb_bitc b j10).mpr hb
      have zy : p (nI j).toNatClampNeg = 0 := by rw [ec]; exact hp
      obtain ⟨r, hX, hY⟩ := ih (j + 1) (by omega) x
      exact ⟨r, fun post hq => br_f h (And.intro h2 (br_t zx (nm_r (nI_1 j) (hX post hq)))), fun post hq => br_f h (And.intro hi (br_t zy (nm_r (nI_1 j) (hY post hq))))⟩
    · have zx : ¬ (((b (nI j >>> ((3 : Int32) &&& 31)).toNatClampNeg) &&& 255) &&& ((1 : Int32) <<< ((nI j &&& 7) &&& 31))) = 0 := fun z => absurd (hb.symm.trans ((nb_bitc b j10).mp z)) (by decide)
      have zy : ¬ p (nI j).toNatClampNeg = 0 := by rw [ec, hp]; decide
      obtain ⟨r, hX, hY⟩ := ih (j + 1) (by omega) (nb_al x (w j) + w j)
      exact ⟨r, fun post hq => br_f h (And.intro h2 (br_f zx (And.intro hi (nm_r ew (nm_r (nb_alx x (hW j j10)) (nm_e (nm_r (nI_1 j) (hX post hq)))))))), fun post hq => br_f h (And.intro hi (br_f zy (And.intro hi (nm_r ew (nm_e (nm_r (nI_1 j) (hY post hq)))))))⟩
theorem nb_of {b w p : Nat → Int32} (hW : nb_W w) (hP : nb_P b p) {m : Nat} (hm : m < 10) (f g : Int32) : ∀ d j : Nat, j + d = m → ∀ x : Int32, ∃ r : Int32, (∀ post : Int32 → Prop, post (nb_al r (w m)) → wX_offsetOf_43 post (nI m) f b w (d + 1) x (nI j)) ∧ (∀ post : Int32 → Prop, post r → wY_walk_4 post (nI m) g w p (d + 1) x (nI j)) := by
  intro d
  induction d with
  | zero =>
    intro j hj x
    have h : nI m ≤ nI j := nI_le (by omega) (by omega)
    have em : w (nI m).toNatClampNeg = w m := by rw [nI_clamp (by omega)]
    exact ⟨x, fun _ hp => br_t h (And.intro (vp_in_nI hm (by decide)) (nm_r em (nm_r (nb_alx x (hW m hm)) hp))), fun _ hp => br_t h hp⟩
  | succ d ih =>
    intro j hj x
    have j10 : j < 10 := by omega
    have h : ¬ nI m ≤ nI j := nI_ge (by omega) (by omega)
    have hi : vp_in (nI j) 10 := vp_in_nI j10 (by decide)
    have h2 := nb_in2 j10
    have ec : (nI j).toNatClampNeg = j := nI_clamp (by omega)
    have ew : w (nI j).toNatClampNeg = w j := by rw [ec]
    rcases hP j j10 with ⟨hp, hb⟩ | ⟨hp, hb⟩
    · have zx := (nb_bitc b j10).mpr hb
      have zy : p (nI j).toNatClampNeg = 0 := by rw [ec]; exact hp
      obtain ⟨r, hX, hY⟩ := ih (j + 1) (by omega) x
      exact ⟨r, fun post hq => br_f h (And.intro h2 (br_t zx (nm_r (nI_1 j) (hX post hq)))), fun post hq => br_f h (And.intro hi (br_t zy (nm_r (nI_1 j) (hY post hq))))⟩
    · have zx : ¬ (((b (nI j >>> ((3 : Int32) &&& 31)).toNatClampNeg) &&& 255) &&& ((1 : Int32) <<< ((nI j &&& 7) &&& 31))) = 0 := fun z => absurd (hb.symm.trans ((nb_bitc b j10).mp z)) (by decide)
      have zy : ¬ p (nI j).toNatClampNeg = 0 := by rw [ec, hp]; decide
      obtain ⟨r, hX, hY⟩ := ih (j + 1) (by omega) (nb_al x (w j) + w j)
      exact ⟨r, fun post hq => br_f h (And.intro h2 (br_f zx (And.intro hi (nm_r ew (nm_r (nb_alx x (hW j j10)) (nm_e (nm_r (nI_1 j) (hX post hq)))))))), fun post hq => br_f h (And.intro hi (br_f zy (And.intro hi (nm_r ew (nm_e (nm_r (nI_1 j) (hY post hq)))))))⟩
theorem i_vc_dataSize {k : Nat} {u : SX} {v : SY} (I : i_Rel k u v) (hk : k + 3 ≤ 1537) : wpX_dataSize (fun r => wpY_dataSize (fun r' => r' = r ∧ i_Rel (k + 3) u v) v) u := by
  obtain ⟨m, b, w, p, hm, rfl, rfl, hW, hP⟩ := I
  obtain ⟨r, hX, hY⟩ := nb_ds hW hP hm (nI m) m 0 (by omega) 0
  rw [nI_0] at hX hY
  unfold wpX_dataSize wpY_dataSize
  dsimp only
  refine ⟨m + 1, hX _ ?_⟩
  unfold wpY_walk
  dsimp only
  exact ⟨m + 1, hY _ ⟨rfl, nb_rel hm hW hP⟩⟩
theorem i_vc_offsetOf {k : Nat} {u : SX} {v : SY} (I : i_Rel k u v) (hk : k + 3 ≤ 1537) (v1 : Int32) : wpX_offsetOf (fun r => wpY_offsetOf (fun r' => r' = r ∧ i_Rel (k + 3) u v) v v1) u v1 := by
  obtain ⟨m, b, w, p, hm, rfl, rfl, hW, hP⟩ := I
  by_cases h0 : v1 < 0
  · exact br_t h0 (br_t h0 ⟨rfl, nb_rel hm hW hP⟩)
  by_cases hn : v1 < nI m
  · obtain ⟨j, hj, rfl⟩ := nI_of h0
    have jm : j < m := (nI_ltI hj (by omega)).mp hn
    have j10 : j < 10 := by omega
    have hi : vp_in (nI j) 10 := vp_in_nI j10 (by decide)
    have h2 := nb_in2 j10
    have ec : (nI j).toNatClampNeg = j := nI_clamp hj
    rcases hP j j10 with ⟨hp, hb⟩ | ⟨hp, hb⟩
    · have zx := (nb_bitc b j10).mpr hb
      have zy : p (nI j).toNatClampNeg = 0 := by rw [ec]; exact hp
      exact br_f h0 (br_t hn (And.intro h2 (br_t zx (br_f h0 (br_t hn (And.intro hi (br_t zy ⟨rfl, nb_rel hm hW hP⟩)))))))
    · have zx : ¬ (((b (nI j >>> ((3 : Int32) &&& 31)).toNatClampNeg) &&& 255) &&& ((1 : Int32) <<< ((nI j &&& 7) &&& 31))) = 0 := fun z => absurd (hb.symm.trans ((nb_bitc b j10).mp z)) (by decide)
      have zy : ¬ p (nI j).toNatClampNeg = 0 := by rw [ec, hp]; decide
      obtain ⟨r, hX, hY⟩ := nb_of hW hP j10 (nI m) (nI m) j 0 (by omega) 0
      rw [nI_0] at hX hY
      have ew : nb_al r (w (nI j).toNatClampNeg) = nb_al r (w j) := by rw [ec]
      refine br_f h0 (br_t hn (And.intro h2 (br_f zx ⟨j + 1, hX _ ?_⟩)))
      refine br_f h0 (br_t hn (And.intro hi (br_f zy ?_)))
      unfold wpY_walk
      dsimp only
      exact ⟨j + 1, hY _ ⟨hi, ew, nb_rel hm hW hP⟩⟩
  · exact br_f h0 (br_f hn (br_f h0 (br_f hn ⟨rfl, nb_rel hm hW hP⟩)))
end
