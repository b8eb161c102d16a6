section
/-! rows of kit/rows: pk_us, pk_un, pk_and, pk_andE, bp_b (starting text) -/
theorem pk_us {f : Nat → Int32} {k : Nat} {x : Int32} : upd f k x k = x := if_pos rfl
theorem pk_un {f : Nat → Int32} {k j : Nat} {x : Int32} (h : j ≠ k) : upd f k x j = f j := if_neg h
theorem pk_and (x : Int32) {m : Int32} (k : Nat) (hm : m.toBitVec.toNat = 2 ^ k - 1) : x &&& m = nI (x.toBitVec.toNat % 2 ^ k) := by
  apply Int32.toBitVec_inj.mp
  apply BitVec.eq_of_toNat_eq
  rw [Int32.toBitVec_and, BitVec.toNat_and, hm, Nat.and_two_pow_sub_one_eq_mod]
  show _ = (BitVec.ofNat 32 _).toNat
  rw [BitVec.toNat_ofNat]
  exact (Nat.mod_eq_of_lt (Nat.lt_of_le_of_lt (Nat.mod_le _ _) x.toBitVec.isLt)).symm
theorem pk_andE (x : Int32) {m : Int32} (k : Nat) (hm : m.toBitVec.toNat = 2 ^ k - 1) : ∃ j : Nat, j < 2 ^ k ∧ x &&& m = nI j := ⟨_, Nat.mod_lt _ (Nat.two_pow_pos k), pk_and x k hm⟩
theorem bp_b (x : Int32) : x.toInt8.toInt32 &&& 255 = x &&& 255 := by
  apply Int32.toBitVec_inj.mp
  rw [Int32.toBitVec_and, Int32.toBitVec_and, Int8.toBitVec_toInt32, Int32.toBitVec_toInt8]
  apply BitVec.eq_of_getLsbD_eq
  intro i hi
  rw [BitVec.getLsbD_and, BitVec.getLsbD_and]
  have hm : ∀ i < 32, 8 ≤ i → (255 : Int32).toBitVec.getLsbD i = false := by decide
  rcases Nat.lt_or_ge i 8 with z | z
  · rw [BitVec.getLsbD_signExtend, BitVec.getLsbD_signExtend, if_pos z, if_pos hi]
    simp only [z, hi, decide_true, Bool.true_and]
  · rw [hm i hi z]; simp
/-! the numbers 0 .. 3 and the ranges of a byte and of a sum of four -/
/-- an int between 0 and 3 -/
theorem ca_rng {x : Int32} (h0 : ¬ x < 0) (h3 : x ≤ 3) : ∃ a : Nat, a < 4 ∧ x = nI a := by
  obtain ⟨j, hj, e⟩ := nI_of2 (M := 3) (n := 3) (by decide) h0 h3
  exact ⟨j, by omega, e⟩
theorem ca_cmp : ∀ a : Nat, a < 4 → ¬ nI a < 0 ∧ ¬ (3 : Int32) < nI a ∧ nI a ≤ 3 := by decide +kernel
theorem ca_x3 : ∀ a : Nat, a < 4 → (nI a >>> ((1 : Int32) &&& 31)) * 2 = nI (a / 2 * 2) := by decide +kernel
theorem ca_x1 : ∀ a : Nat, a < 4 → nI a >>> ((1 : Int32) &&& 31) = nI (a / 2) := by decide +kernel
theorem ca_m4 : ∀ a : Nat, a < 4 → nI a * 4 = nI (a * 4) := by decide +kernel
theorem ca_m5 : ∀ a : Nat, a < 4 → nI (a / 2 * 2) * 4 = nI (a / 2 * 8) := by decide +kernel
theorem ca_m6 : ∀ a : Nat, a < 4 → (nI (a / 2 * 2) + 1) * 4 = nI (a / 2 * 8 + 4) := by decide +kernel
/-- a short keeps a number below 1024 -/
theorem ca_16 : ∀ m : Nat, m < 1024 → (nI m).toInt16.toInt32 = nI m := by decide +kernel
theorem ca_sh {x : Int32} {m : Nat} (e : x = nI m) (h : m < 1024) : vp_nar .short x.toInt16.toInt32 = x := by
  subst e
  rw [vp_nar_short, ca_16 m h, ca_16 m h]
theorem ca_255 (x : Int32) : ∃ m : Nat, m < 256 ∧ x &&& 255 = nI m := pk_andE x 8 (by decide)
theorem ca_by (x : Int32) : vp_nar .byte x.toInt8.toInt32 &&& 255 = x &&& 255 := by
  rw [vp_nar_byte, bp_b, bp_b]
theorem ca_aa (x : Int32) : (x &&& 255) &&& 255 = x &&& 255 := by
  rw [Int32.and_assoc, Int32.and_self]
/-! the sum of the 2x2 block whose first sample lies at t -/
def ca_T (F : Nat → Int32) (t : Nat) : Int32 := F t + F (t + 1) + F (t + 4) + F (t + 5)
theorem ca_in {F : Nat → Int32} {t i : Nat} {n : Int32} (h : i = t ∨ i = t + 1 ∨ i = t + 4 ∨ i = t + 5) : ca_T (upd F i n) t = ca_T F t + (n - F i) := by
  unfold ca_T
  rcases h with rfl | rfl | rfl | rfl
  · rw [pk_us, pk_un (by omega), pk_un (by omega), pk_un (by omega)]; grind
  · rw [pk_us, pk_un (by omega), pk_un (by omega), pk_un (by omega)]; grind
  · rw [pk_us, pk_un (by omega), pk_un (by omega), pk_un (by omega)]; grind
  · rw [pk_us, pk_un (by omega), pk_un (by omega), pk_un (by omega)]; grind
theorem ca_out {F : Nat → Int32} {t i : Nat} {n : Int32} (h0 : t ≠ i) (h1 : t + 1 ≠ i) (h4 : t + 4 ≠ i) (h5 : t + 5 ≠ i) : ca_T (upd F i n) t = ca_T F t := by
  unfold ca_T
  rw [pk_un h0, pk_un h1, pk_un h4, pk_un h5]
theorem ca_fit {F : Nat → Int32} (h : ∀ j, ∃ x : Int32, F j = x &&& 255) (t : Nat) : ∃ m : Nat, m < 1024 ∧ ca_T F t = nI m := by
  have g : ∀ j, ∃ m : Nat, m < 256 ∧ F j = nI m := fun j => by
    obtain ⟨x, e⟩ := h j
    obtain ⟨m, hm, f⟩ := ca_255 x
    exact ⟨m, hm, e.trans f⟩
  obtain ⟨a, ha, ea⟩ := g t
  obtain ⟨b, hb, eb⟩ := g (t + 1)
  obtain ⟨c, hc, ec⟩ := g (t + 4)
  obtain ⟨d, hd, ed⟩ := g (t + 5)
  refine ⟨a + b + c + d, by omega, ?_⟩
  unfold ca_T
  rw [ea, eb, ec, ed, nI_add, nI_add, nI_add]
/-- the relation: equal luma, equal chroma (both as 0 .. 255), and each sum is the sum of its block -/
def ca_R (L C S L' F : Nat → Int32) : Prop :=
  (∀ j, L j &&& 255 = L' j &&& 255) ∧ (∀ j, C j &&& 255 = F j) ∧ (∀ q p, q < 2 → p < 2 → S (q * 2 + p) = ca_T F (q * 8 + p * 2))
/-- a put at column a, row b keeps it -/
theorem ca_put {L C S L' F : Nat → Int32} (R : ca_R L C S L' F) {a b : Nat} (ha : a < 4) (hb : b < 4) (l c : Int32) :
    ca_R (upd L (b * 4 + a) (vp_nar .byte ((l &&& 255).toInt8.toInt32)))
      (upd C (b * 4 + a) (vp_nar .byte (c &&& 255).toInt8.toInt32))
      (upd S (b / 2 * 2 + a / 2) (vp_nar .short ((S (b / 2 * 2 + a / 2) + ((c &&& 255) - (C (b * 4 + a) &&& 255))).toInt16.toInt32)))
      (upd L' (b * 4 + a) (vp_nar .byte l.toInt8.toInt32))
      (upd F (b * 4 + a) (vp_nar .short ((c &&& 255).toInt16.toInt32))) := by
  obtain ⟨hL, hC, hS⟩ := R
  have eF : vp_nar .short ((c &&& 255).toInt16.toInt32) = c &&& 255 := by
    obtain ⟨m, hm, e⟩ := ca_255 c
    exact ca_sh e (by omega)
  rw [eF]
  have kC : ∀ j, upd C (b * 4 + a) (vp_nar .byte (c &&& 255).toInt8.toInt32) j &&& 255 = upd F (b * 4 + a) (c &&& 255) j := fun j => by
    by_cases z : j = b * 4 + a
    · subst z
      rw [pk_us, pk_us, ca_by, ca_aa]
    · rw [pk_un z, pk_un z]; exact hC j
  refine ⟨fun j => ?_, kC, fun q p hq hp => ?_⟩
  · by_cases z : j = b * 4 + a
    · subst z
      rw [pk_us, pk_us, ca_by, ca_by, ca_aa]
    · rw [pk_un z, pk_un z]; exact hL j
  · by_cases z : q * 2 + p = b / 2 * 2 + a / 2
    · have zq : b / 2 = q := by omega
      have zp : a / 2 = p := by omega
      have hi : b * 4 + a = q * 8 + p * 2 ∨ b * 4 + a = q * 8 + p * 2 + 1 ∨ b * 4 + a = q * 8 + p * 2 + 4 ∨ b * 4 + a = q * 8 + p * 2 + 5 := by omega
      rw [← z, pk_us, hS q p hq hp, hC, ← ca_in hi]
      obtain ⟨m, hm, e⟩ := ca_fit (F := upd F (b * 4 + a) (c &&& 255)) (fun j => ⟨_, (kC j).symm⟩) (q * 8 + p * 2)
      exact ca_sh e hm
    · rw [pk_un z, hS q p hq hp]
      exact (ca_out (by omega) (by omega) (by omega) (by omega)).symm
end
section
/-! the walks inside the frame: column a, row b, both below 4 -/
theorem ca_Xc {post : Int32 → Prop} {L C S : Nat → Int32} {a b : Nat} (ha : a < 4) (hb : b < 4) (h : post ((S (b / 2 * 2 + a / 2) + 2) >>> ((2 : Int32) &&& 31))) : wpX_chromaAt post (L, C, S) (nI a) (nI b) := by
  obtain ⟨a1, a2, a3⟩ := ca_cmp a ha
  obtain ⟨b1, b2, b3⟩ := ca_cmp b hb
  have e : ((nI b >>> ((1 : Int32) &&& 31)) * 2) + (nI a >>> ((1 : Int32) &&& 31)) = nI (b / 2 * 2 + a / 2) := by
    rw [ca_x3 b hb, ca_x1 a ha, nI_add]
  have hi : vp_in (((nI b >>> ((1 : Int32) &&& 31)) * 2) + (nI a >>> ((1 : Int32) &&& 31))) 4 := by
    rw [e]; exact vp_in_nI (by omega) (by omega)
  have hc : (((nI b >>> ((1 : Int32) &&& 31)) * 2) + (nI a >>> ((1 : Int32) &&& 31))).toNatClampNeg = b / 2 * 2 + a / 2 := by
    rw [e]; exact nI_clamp (by omega)
  exact br_f a1 (br_f a2 (br_f b1 (br_t b3 ⟨hi, nm_r (congrArg S hc) h⟩)))
theorem ca_Yc {post : Int32 → Prop} {L F : Nat → Int32} {a b : Nat} (ha : a < 4) (hb : b < 4) (h : post ((ca_T F (b / 2 * 8 + a / 2 * 2) + 2) >>> ((2 : Int32) &&& 31))) : wpY_chromaAt post (L, F) (nI a) (nI b) := by
  obtain ⟨a1, a2, a3⟩ := ca_cmp a ha
  obtain ⟨b1, b2, b3⟩ := ca_cmp b hb
  have i0 : nI (b / 2 * 8) + nI (a / 2 * 2) = nI (b / 2 * 8 + a / 2 * 2) := nI_add _ _
  have i1 : nI (b / 2 * 8) + nI (a / 2 * 2) + 1 = nI (b / 2 * 8 + a / 2 * 2 + 1) := by rw [i0, nI_1]
  have i4 : nI (b / 2 * 8 + 4) + nI (a / 2 * 2) = nI (b / 2 * 8 + a / 2 * 2 + 4) := by
    rw [nI_add]; exact congrArg nI (by omega)
  have i5 : nI (b / 2 * 8 + 4) + nI (a / 2 * 2) + 1 = nI (b / 2 * 8 + a / 2 * 2 + 5) := by rw [i4, nI_1]
  have v0 : vp_in (nI (b / 2 * 8) + nI (a / 2 * 2)) 16 := by rw [i0]; exact vp_in_nI (by omega) (by omega)
  have v1 : vp_in (nI (b / 2 * 8) + nI (a / 2 * 2) + 1) 16 := by rw [i1]; exact vp_in_nI (by omega) (by omega)
  have v4 : vp_in (nI (b / 2 * 8 + 4) + nI (a / 2 * 2)) 16 := by rw [i4]; exact vp_in_nI (by omega) (by omega)
  have v5 : vp_in (nI (b / 2 * 8 + 4) + nI (a / 2 * 2) + 1) 16 := by rw [i5]; exact vp_in_nI (by omega) (by omega)
  have c0 : (nI (b / 2 * 8) + nI (a / 2 * 2)).toNatClampNeg = b / 2 * 8 + a / 2 * 2 := by rw [i0]; exact nI_clamp (by omega)
  have c1 : (nI (b / 2 * 8) + nI (a / 2 * 2) + 1).toNatClampNeg = b / 2 * 8 + a / 2 * 2 + 1 := by rw [i1]; exact nI_clamp (by omega)
  have c4 : (nI (b / 2 * 8 + 4) + nI (a / 2 * 2)).toNatClampNeg = b / 2 * 8 + a / 2 * 2 + 4 := by rw [i4]; exact nI_clamp (by omega)
  have c5 : (nI (b / 2 * 8 + 4) + nI (a / 2 * 2) + 1).toNatClampNeg = b / 2 * 8 + a / 2 * 2 + 5 := by rw [i5]; exact nI_clamp (by omega)
  exact br_f a1 (br_f a2 (br_f b1 (br_t b3 (nm_r (ca_x3 a ha) (nm_r (ca_x3 b hb) (nm_r (ca_m5 b hb) (nm_r (ca_m6 b hb)
    ⟨v0, v1, v4, v5, nm_r (e' := ca_T F (b / 2 * 8 + a / 2 * 2)) (by rw [c1, c5, c0, c4]; rfl) h⟩)))))))
theorem ca_ix {a b : Nat} (ha : a < 4) (hb : b < 4) : nI b * 4 + nI a = nI (b * 4 + a) := by
  rw [ca_m4 b hb, nI_add]
theorem ca_bx {a b : Nat} (ha : a < 4) (hb : b < 4) : ((nI b >>> ((1 : Int32) &&& 31)) * 2) + (nI a >>> ((1 : Int32) &&& 31)) = nI (b / 2 * 2 + a / 2) := by
  rw [ca_x3 b hb, ca_x1 a ha, nI_add]
theorem ca_Xl {post : Int32 → Prop} {L C S : Nat → Int32} {a b : Nat} (ha : a < 4) (hb : b < 4) (h : post (L (b * 4 + a) &&& 255)) : wpX_lumaAt post (L, C, S) (nI a) (nI b) := by
  obtain ⟨a1, a2, a3⟩ := ca_cmp a ha
  obtain ⟨b1, b2, b3⟩ := ca_cmp b hb
  have hi : vp_in (nI b * 4 + nI a) 16 := by rw [ca_ix ha hb]; exact vp_in_nI (by omega) (by omega)
  have hc : (nI b * 4 + nI a).toNatClampNeg = b * 4 + a := by rw [ca_ix ha hb]; exact nI_clamp (by omega)
  exact br_f a1 (br_f a2 (br_f b1 (br_t b3 ⟨hi, by rw [hc]; exact h⟩)))
theorem ca_Yl {post : Int32 → Prop} {L F : Nat → Int32} {a b : Nat} (ha : a < 4) (hb : b < 4) (h : post (L (b * 4 + a) &&& 255)) : wpY_lumaAt post (L, F) (nI a) (nI b) := by
  obtain ⟨a1, a2, a3⟩ := ca_cmp a ha
  obtain ⟨b1, b2, b3⟩ := ca_cmp b hb
  have hi : vp_in (nI b * 4 + nI a) 16 := by rw [ca_ix ha hb]; exact vp_in_nI (by omega) (by omega)
  have hc : (nI b * 4 + nI a).toNatClampNeg = b * 4 + a := by rw [ca_ix ha hb]; exact nI_clamp (by omega)
  exact br_f a1 (br_f a2 (br_f b1 (br_t b3 ⟨hi, by rw [hc]; exact h⟩)))
theorem ca_Xp {post : Int32 → SX → Prop} {L C S L1 C1 S1 : Nat → Int32} {a b : Nat} (ha : a < 4) (hb : b < 4) {l c : Int32}
    (eL : upd L (b * 4 + a) (vp_nar .byte ((l &&& 255).toInt8.toInt32)) = L1)
    (eC : upd C (b * 4 + a) (vp_nar .byte (c &&& 255).toInt8.toInt32) = C1)
    (eS : upd S (b / 2 * 2 + a / 2) (vp_nar .short ((S (b / 2 * 2 + a / 2) + ((c &&& 255) - (C (b * 4 + a) &&& 255))).toInt16.toInt32)) = S1)
    (h : post ((S1 (b / 2 * 2 + a / 2) + 2) >>> ((2 : Int32) &&& 31)) (L1, C1, S1)) : wpX_put post (L, C, S) (nI a) (nI b) l c := by
  obtain ⟨a1, a2, a3⟩ := ca_cmp a ha
  obtain ⟨b1, b2, b3⟩ := ca_cmp b hb
  have hi : vp_in (nI (b * 4 + a)) 16 := vp_in_nI (by omega) (by omega)
  have hj : vp_in (nI (b / 2 * 2 + a / 2)) 4 := vp_in_nI (by omega) (by omega)
  have ci : (nI (b * 4 + a)).toNatClampNeg = b * 4 + a := nI_clamp (by omega)
  have cj : (nI (b / 2 * 2 + a / 2)).toNatClampNeg = b / 2 * 2 + a / 2 := nI_clamp (by omega)
  exact br_f a1 (br_f a2 (br_f b1 (br_t b3 (nm_r (ca_ix ha hb) (nm_r (ca_bx ha hb) ⟨hi,
    nm_r (e' := C (b * 4 + a) &&& 255) (by rw [ci]) (nm_e ⟨hi, nm_r (e' := L1) (by rw [ci]; exact eL) ⟨hi,
    nm_r (e' := C1) (by rw [ci]; exact eC) ⟨hj, hj, nm_r (e' := S1) (by rw [cj]; exact eS) (ca_Xc ha hb h)⟩⟩⟩)⟩)))))
theorem ca_Yp {post : Int32 → SY → Prop} {L F L1 F1 : Nat → Int32} {a b : Nat} (ha : a < 4) (hb : b < 4) {l c : Int32}
    (eL : upd L (b * 4 + a) (vp_nar .byte l.toInt8.toInt32) = L1)
    (eF : upd F (b * 4 + a) (vp_nar .short ((c &&& 255).toInt16.toInt32)) = F1)
    (h : post ((ca_T F1 (b / 2 * 8 + a / 2 * 2) + 2) >>> ((2 : Int32) &&& 31)) (L1, F1)) : wpY_put post (L, F) (nI a) (nI b) l c := by
  obtain ⟨a1, a2, a3⟩ := ca_cmp a ha
  obtain ⟨b1, b2, b3⟩ := ca_cmp b hb
  have hi : vp_in (nI b * 4 + nI a) 16 := by rw [ca_ix ha hb]; exact vp_in_nI (by omega) (by omega)
  have hc : (nI b * 4 + nI a).toNatClampNeg = b * 4 + a := by rw [ca_ix ha hb]; exact nI_clamp (by omega)
  exact br_f a1 (br_f a2 (br_f b1 (br_t b3 ⟨hi, nm_r (e' := L1) (by rw [hc]; exact eL) ⟨hi,
    nm_r (e' := F1) (by rw [hc]; exact eF) (ca_Yc ha hb h)⟩⟩)))
/-! the walks outside the frame: the answer is -1 -/
def ca_I (x y : Int32) : Prop := ¬ x < 0 ∧ ¬ 3 < x ∧ ¬ y < 0 ∧ y ≤ 3
theorem ca_get {x y : Int32} (h : ca_I x y) : ∃ a b : Nat, a < 4 ∧ b < 4 ∧ x = nI a ∧ y = nI b := by
  obtain ⟨a, ha, ea⟩ := ca_rng h.1 (Int32.not_lt.mp h.2.1)
  obtain ⟨b, hb, eb⟩ := ca_rng h.2.2.1 h.2.2.2
  exact ⟨a, b, ha, hb, ea, eb⟩
theorem ca_no {x y : Int32} {A B : Prop} (h : ¬ ca_I x y) (z : A) : ((x < 0 → A) ∧ (¬ x < 0 → ((3 < x → A) ∧ (¬ 3 < x → ((y < 0 → A) ∧ (¬ y < 0 → ((y ≤ 3 → B) ∧ (¬ y ≤ 3 → A)))))))) :=
  br_c (fun _ => z) fun h1 => br_c (fun _ => z) fun h2 => br_c (fun _ => z) fun h3 => br_c (fun h4 => absurd ⟨h1, h2, h3, h4⟩ h) fun _ => z
end
section
/-- the relation at the head of a turn: the luma samples agree, the chroma samples agree, each sum is its block's -/
def i_Rel (_ : Nat) (u : SX) (v : SY) : Prop := ca_R u.1 u.2.1 u.2.2 v.1 v.2
theorem i_up {k : Nat} {u : SX} {v : SY} (h : i_Rel k u v) : i_Rel (k + 5) u v := h
theorem i_vc0 : wpX_init (fun u => wpY_init (fun v => i_Rel 0 u v)) :=
  ⟨fun _ => rfl, fun _ => (by decide : (0 : Int32) &&& 255 = 0), fun _ _ _ _ => (by decide : (0 : Int32) = 0 + 0 + 0 + 0)⟩
theorem i_vc_put {k : Nat} {u : SX} {v : SY} (I : i_Rel k u v) (hk : k + 5 ≤ 2560) (v1 : Int32) (v2 : Int32) (v3 : Int32) (v4 : Int32) : wpX_put (fun r u' => wpY_put (fun r' v' => r' = r ∧ i_Rel (k + 5) u' v') v v1 v2 v3 v4) u v1 v2 v3 v4 := by
  obtain ⟨L, C, S⟩ := u
  obtain ⟨L', F⟩ := v
  have R : ca_R L C S L' F := I
  by_cases h : ca_I v1 v2
  · obtain ⟨a, b, ha, hb, rfl, rfl⟩ := ca_get h
    have R' := ca_put R ha hb v3 v4
    have E := R'.2.2 (b / 2) (a / 2) (by omega) (by omega)
    refine ca_Xp ha hb rfl rfl rfl (ca_Yp ha hb rfl rfl ⟨?_, R'⟩)
    rw [E]
  · exact ca_no h (ca_no h ⟨rfl, R⟩)
theorem i_vc_lumaAt {k : Nat} {u : SX} {v : SY} (I : i_Rel k u v) (hk : k + 5 ≤ 2560) (v1 : Int32) (v2 : Int32) : wpX_lumaAt (fun r => wpY_lumaAt (fun r' => r' = r ∧ i_Rel (k + 5) u v) v v1 v2) u v1 v2 := by
  obtain ⟨L, C, S⟩ := u
  obtain ⟨L', F⟩ := v
  have R : ca_R L C S L' F := I
  by_cases h : ca_I v1 v2
  · obtain ⟨a, b, ha, hb, rfl, rfl⟩ := ca_get h
    exact ca_Xl ha hb (ca_Yl ha hb ⟨(R.1 (b * 4 + a)).symm, R⟩)
  · exact ca_no h (ca_no h ⟨rfl, R⟩)
theorem i_vc_chromaAt {k : Nat} {u : SX} {v : SY} (I : i_Rel k u v) (hk : k + 5 ≤ 2560) (v1 : Int32) (v2 : Int32) : wpX_chromaAt (fun r => wpY_chromaAt (fun r' => r' = r ∧ i_Rel (k + 5) u v) v v1 v2) u v1 v2 := by
  obtain ⟨L, C, S⟩ := u
  obtain ⟨L', F⟩ := v
  have R : ca_R L C S L' F := I
  by_cases h : ca_I v1 v2
  · obtain ⟨a, b, ha, hb, rfl, rfl⟩ := ca_get h
    have E := R.2.2 (b / 2) (a / 2) (by omega) (by omega)
    refine ca_Xc ha hb (ca_Yc ha hb ⟨?_, R⟩)
    rw [E]
  · exact ca_no h (ca_no h ⟨rfl, R⟩)
end
