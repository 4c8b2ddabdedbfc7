section
/-! Int32 by its bits (rows of the kit's laws, renamed) -/
def ky_bt (x : Int32) (i : Nat) : Bool := x.toBitVec.getLsbD i
theorem ky_ext {x y : Int32} (h : ∀ i, i < 32 → ky_bt x i = ky_bt y i) : x = y := Int32.toBitVec_inj.mp (BitVec.eq_of_getLsbD_eq (fun i hi => h i hi))
theorem ky_bor (x y : Int32) (i : Nat) : ky_bt (x ||| y) i = (ky_bt x i || ky_bt y i) := by unfold ky_bt; rw [Int32.toBitVec_or, BitVec.getLsbD_or]
theorem ky_band (x y : Int32) (i : Nat) : ky_bt (x &&& y) i = (ky_bt x i && ky_bt y i) := by unfold ky_bt; rw [Int32.toBitVec_and, BitVec.getLsbD_and]
theorem ky_bbig {x : Int32} {i : Nat} (h : 32 ≤ i) : ky_bt x i = false := BitVec.getLsbD_of_ge _ _ h
theorem ky_b255 (i : Nat) : ky_bt 255 i = decide (i < 8) := by
  rcases Nat.lt_or_ge i 32 with h | h
  · exact (by decide +kernel : ∀ i, i < 32 → ky_bt 255 i = decide (i < 8)) i h
  · rw [ky_bbig h, decide_eq_false (by omega)]
theorem ky_b0 (i : Nat) : ky_bt 0 i = false := BitVec.getLsbD_zero
theorem ky_sl : ∀ n, n < 32 → ((nI n &&& 31).toBitVec.smod 32).toNat = n := by decide +kernel
theorem ky_su : ∀ n, n < 32 → (((nI n).toUInt32 &&& Int32.toUInt32 31).toBitVec % 32).toNat = n := by decide +kernel
theorem ky_bshl (n : Nat) (hn : n < 32) (x : Int32) {i : Nat} (hi : i < 32) : ky_bt (x <<< (nI n &&& 31)) i = (decide (n ≤ i) && ky_bt x (i - n)) := by
  unfold ky_bt
  rw [Int32.toBitVec_shiftLeft]
  show (x.toBitVec <<< ((nI n &&& 31).toBitVec.smod 32).toNat).getLsbD i = _
  rw [ky_sl n hn, BitVec.getLsbD_shiftLeft]
  rcases Nat.lt_or_ge i n with h | h
  · simp [h, Nat.not_le.mpr h]
  · simp [hi, h, Nat.not_lt.mpr h]
theorem ky_bushr (n : Nat) (hn : n < 32) (x : Int32) (i : Nat) : ky_bt ((x.toUInt32 >>> ((nI n).toUInt32 &&& Int32.toUInt32 31)).toInt32) i = ky_bt x (n + i) := by
  show (x.toUInt32 >>> ((nI n).toUInt32 &&& Int32.toUInt32 31)).toBitVec.getLsbD i = x.toUInt32.toBitVec.getLsbD (n + i)
  rw [UInt32.toBitVec_shiftRight]
  show (x.toUInt32.toBitVec >>> (((nI n).toUInt32 &&& Int32.toUInt32 31).toBitVec % 32).toNat).getLsbD i = _
  rw [ky_su n hn, BitVec.getLsbD_ushiftRight]
theorem ky_bshl8 (x : Int32) {i : Nat} (hi : i < 32) : ky_bt (x <<< ((8 : Int32) &&& 31)) i = (decide (8 ≤ i) && ky_bt x (i - 8)) := ky_bshl 8 (by omega) x hi
/-! a field's kind, a byte turned round, the bytes of an int -/
def ky_X (sc k : Int32) : Prop := ((sc >>> ((4 * k) &&& 31)) &&& 1) = 1
def ky_T (sc k b : Int32) : Int32 := if ((sc >>> ((4 * k) &&& 31)) &&& 2) = 2 then 255 - b else b
def ky_by (v : Int32) (m : Nat) : Int32 := ((v.toUInt32 >>> ((nI (24 - 8 * m)).toUInt32 &&& Int32.toUInt32 31)).toInt32) &&& 255
theorem ky_TT (sc k b : Int32) : ky_T sc k (ky_T sc k b) = b := by
  unfold ky_T
  by_cases h : ((sc >>> ((4 * k) &&& 31)) &&& 2) = 2
  · rw [if_pos h, if_pos h]; grind
  · rw [if_neg h, if_neg h]
theorem ky_d1 : ∀ j, j < 256 → (nI j).toInt16.toInt32 = nI j := by decide +kernel
theorem ky_d2 : ∀ j, j < 256 → ((255 : Int32) - nI j).toInt16.toInt32 = 255 - nI j := by decide +kernel
theorem ky_Tn (sc k v : Int32) (m : Nat) : (ky_T sc k (ky_by v m)).toInt16.toInt32 = ky_T sc k (ky_by v m) := by
  obtain ⟨j, hj, e⟩ := pk_andE ((v.toUInt32 >>> ((nI (24 - 8 * m)).toUInt32 &&& Int32.toUInt32 31)).toInt32) (m := 255) 8 (by decide)
  have e' : ky_by v m = nI j := e
  rw [e']
  unfold ky_T
  by_cases h : ((sc >>> ((4 * k) &&& 31)) &&& 2) = 2
  · rw [if_pos h]; exact ky_d2 j (by omega)
  · rw [if_neg h]; exact ky_d1 j (by omega)
theorem ky_bby (v : Int32) (m : Nat) (i : Nat) : ky_bt (ky_by v m) i = (ky_bt v (24 - 8 * m + i) && decide (i < 8)) := by
  unfold ky_by
  rw [ky_band, ky_b255, ky_bushr _ (by omega)]
theorem ky_join (v : Int32) : (((((((((0 : Int32) <<< ((8 : Int32) &&& 31)) ||| ky_by v 0) <<< ((8 : Int32) &&& 31)) ||| ky_by v 1) <<< ((8 : Int32) &&& 31)) ||| ky_by v 2) <<< ((8 : Int32) &&& 31)) ||| ky_by v 3) = v := by
  apply ky_ext
  intro i hi
  rw [ky_bor, ky_bshl8 _ hi, ky_bor, ky_bshl8 _ (show i - 8 < 32 by omega), ky_bor, ky_bshl8 _ (show i - 8 - 8 < 32 by omega), ky_bor, ky_bshl8 _ (show i - 8 - 8 - 8 < 32 by omega), ky_b0, ky_bby, ky_bby, ky_bby, ky_bby]
  rcases (by omega : i < 8 ∨ (8 ≤ i ∧ i < 16) ∨ (16 ≤ i ∧ i < 24) ∨ 24 ≤ i) with h | h | h | h
  · simp only [decide_eq_false (show ¬ 8 ≤ i by omega), decide_eq_true (show i < 8 by omega), Bool.false_and, Bool.false_or, Bool.and_true]
    rw [show 24 - 8 * 3 + i = i by omega]
  · simp only [decide_eq_true (show 8 ≤ i by omega), decide_eq_false (show ¬ 8 ≤ i - 8 by omega), decide_eq_true (show i - 8 < 8 by omega), decide_eq_false (show ¬ i < 8 by omega), Bool.false_and, Bool.false_or, Bool.and_true, Bool.and_false, Bool.or_false, Bool.true_and]
    rw [show 24 - 8 * 2 + (i - 8) = i by omega]
  · simp only [decide_eq_true (show 8 ≤ i by omega), decide_eq_true (show 8 ≤ i - 8 by omega), decide_eq_false (show ¬ 8 ≤ i - 8 - 8 by omega), decide_eq_false (show ¬ i - 8 < 8 by omega), decide_eq_true (show i - 8 - 8 < 8 by omega), decide_eq_false (show ¬ i < 8 by omega), Bool.false_and, Bool.false_or, Bool.and_true, Bool.and_false, Bool.or_false, Bool.true_and]
    rw [show 24 - 8 * 1 + (i - 8 - 8) = i by omega]
  · simp only [decide_eq_true (show 8 ≤ i by omega), decide_eq_true (show 8 ≤ i - 8 by omega), decide_eq_true (show 8 ≤ i - 8 - 8 by omega), decide_eq_false (show ¬ i - 8 < 8 by omega), decide_eq_false (show ¬ i - 8 - 8 < 8 by omega), decide_eq_true (show i - 8 - 8 - 8 < 8 by omega), decide_eq_false (show ¬ i < 8 by omega), Bool.false_and, Bool.false_or, Bool.and_true, Bool.and_false, Bool.or_false, Bool.true_and]
    rw [show 24 - 8 * 0 + (i - 8 - 8 - 8) = i by omega]
theorem ky_xx (x : Int32) : (x ^^^ (-2147483648)) ^^^ (-2147483648) = x := by
  rw [Int32.xor_assoc, Int32.xor_self, Int32.xor_zero]
/-! the stage: field k alone holds a value; the texts are empty -/
def ky_S (k : Nat) (a1 a3 : Nat → Int32) : Prop := (∀ j, j < 4 → j ≠ k → ¬ a1 j = 0) ∧ (k < 4 → a1 k = 0) ∧ ∀ j, a3 j = 0
/-! the key: what stands in it behind i fields, p bytes -/
def ky_Q (sc : Int32) (k : Nat) (v : Int32) (p : Nat) (a : Nat → Int32) : Prop := k + 5 ≤ p ∧ (∀ j, j < k → a j = 0 ∨ a j = 2) ∧ a k = 1 ∧ ∀ m, m < 4 → a (k + 1 + m) = ky_T sc (nI k) (ky_by v m)
def ky_P (sc : Int32) (k : Nat) (v : Int32) (i p : Nat) (a : Nat → Int32) : Prop := (i ≤ k → p = i ∧ ∀ j, j < i → a j = 0 ∨ a j = 2) ∧ (k < i → k + 1 ≤ p ∧ p ≤ i + 4 ∧ (¬ ky_X sc (nI k) → ky_Q sc k v p a))
theorem ky_Ple {sc v : Int32} {k i p : Nat} {a : Nat → Int32} (h : ky_P sc k v i p a) : p ≤ i + 4 := by
  rcases Nat.lt_or_ge k i with z | z
  · exact (h.2 z).2.1
  · have := (h.1 z).1
    omega
theorem ky_P0 {sc v : Int32} {k : Nat} {a : Nat → Int32} : ky_P sc k v 0 0 a := ⟨fun _ => ⟨rfl, fun j hj => absurd hj (by omega)⟩, fun z => absurd z (by omega)⟩
theorem ky_Qk {sc v : Int32} {k p q : Nat} {a b : Nat → Int32} (h : ky_Q sc k v p a) (hq : p ≤ q) (hb : ∀ j, j < p → b j = a j) : ky_Q sc k v q b := by
  obtain ⟨h1, h2, h3, h4⟩ := h
  refine ⟨by omega, fun j hj => ?_, ?_, fun m hm => ?_⟩
  · rw [hb j (by omega)]; exact h2 j hj
  · rw [hb k (by omega)]; exact h3
  · rw [hb _ (by omega)]; exact h4 m hm
theorem ky_Pn {sc v : Int32} {k i p : Nat} {a : Nat → Int32} {b : Int32} (h : ky_P sc k v i p a) (hi : i ≠ k) (hb : b = 0 ∨ b = 2) : ky_P sc k v (i + 1) (p + 1) (upd a p b) := by
  refine ⟨fun z => ?_, fun z => ?_⟩
  · obtain ⟨e, h2⟩ := h.1 (by omega)
    refine ⟨by omega, fun j hj => ?_⟩
    by_cases ej : j = p
    · rw [ej, pk_us]; exact hb
    · rw [pk_un ej]; exact h2 j (by omega)
  · obtain ⟨h1, h2, h3⟩ := h.2 (by omega)
    exact ⟨by omega, by omega, fun hx => ky_Qk (h3 hx) (by omega) (fun j hj => pk_un (by omega))⟩
theorem ky_Pt {sc v : Int32} {k p : Nat} {a b : Nat → Int32} (h : ky_P sc k v k p a) (hx : ky_X sc (nI k)) : ky_P sc k v (k + 1) (p + 1 + 2) b := by
  obtain ⟨e, h2⟩ := h.1 (Nat.le_refl k)
  exact ⟨fun z => absurd z (by omega), fun _ => ⟨by omega, by omega, fun z => absurd hx z⟩⟩
theorem ky_Pi {sc v : Int32} {k p : Nat} {a b : Nat → Int32} (h : ky_P sc k v k p a) (hb : ∀ j, j < p + 1 → b j = upd a p 1 j) (ht : ∀ m, m < 4 → b (p + 1 + m) = ky_T sc (nI k) (ky_by v m)) : ky_P sc k v (k + 1) (p + 1 + 4) b := by
  obtain ⟨e, h2⟩ := h.1 (Nat.le_refl k)
  subst e
  refine ⟨fun z => absurd z (by omega), fun _ => ⟨by omega, by omega, fun _ => ⟨by omega, fun j hj => ?_, ?_, ht⟩⟩⟩
  · rw [hb j (by omega), pk_un (by omega)]; exact h2 j hj
  · rw [hb p (by omega), pk_us]
/-! the key as stored: narrowed once more, it is the same -/
theorem ky_nar0 : vp_nar .short 0 = 0 := by rw [vp_nar_short]; decide
theorem ky_nar1 : vp_nar .short 1 = 1 := by rw [vp_nar_short]; decide
theorem ky_nar2 : vp_nar .short 2 = 2 := by rw [vp_nar_short]; decide
theorem ky_Qnar {sc v : Int32} {k p : Nat} {a b : Nat → Int32} (h : ky_Q sc k v p a) (hb : ∀ j, j < p → b j = vp_nar .short (a j)) : ky_Q sc k v p b := by
  obtain ⟨h1, h2, h3, h4⟩ := h
  refine ⟨h1, fun j hj => ?_, ?_, fun m hm => ?_⟩
  · rw [hb j (by omega)]
    rcases h2 j hj with z | z
    · left; rw [z]; exact ky_nar0
    · right; rw [z]; exact ky_nar2
  · rw [hb k (by omega), h3]; exact ky_nar1
  · rw [hb _ (by omega), h4 m hm, vp_nar_short]; exact ky_Tn _ _ _ _
end
section
section
variable {f sc e pl ra : Int32} {a1 a2 a3 a4 a5 a6 a7 a8 a9 a10 : Nat → Int32}
theorem ky_emit {post : St2 → Prop} {p : Nat} {b : Int32} (hp : p < 64) (H : post (f, sc, e, nI (p + 1), ra, a1, a2, a3, a4, a5, a6, a7, a8, a9, upd a10 p b.toInt16.toInt32)) : wpX_emit post (f, sc, e, nI p, ra, a1, a2, a3, a4, a5, a6, a7, a8, a9, a10) b :=
  pk_lt p 64 (fun _ => ⟨pk_in p 64 hp, nm_r (by rw [nI_clamp (by omega)]) (nm_r (nI_1 p) H)⟩) (fun z => absurd z (by omega))
theorem ky_emitT {post : St2 → Prop} {p : Nat} {b k : Int32} (hp : p < 64) (H : post (f, sc, e, nI (p + 1), ra, a1, a2, a3, a4, a5, a6, a7, a8, a9, upd a10 p (ky_T sc k b).toInt16.toInt32)) : wpX_emitTurned post (f, sc, e, nI p, ra, a1, a2, a3, a4, a5, a6, a7, a8, a9, a10) b k :=
  br_c (fun h => br_f (by decide) (ky_emit hp (by rw [ky_T, if_pos h] at H; exact H))) (fun h => br_t rfl (ky_emit hp (by rw [ky_T, if_neg h] at H; exact H)))
theorem ky_emitText {post : St2 → Prop} {p k : Nat} (hk : k < 4) (h3 : a3 k = 0) (hp : p + 2 ≤ 64) (H : ∀ a, post (f, sc, e, nI (p + 2), ra, a1, a2, a3, a4, a5, a6, a7, a8, a9, a)) : wpX_emitText post (f, sc, e, nI p, ra, a1, a2, a3, a4, a5, a6, a7, a8, a9, a10) (nI k) :=
  ⟨1, pk_in k 4 hk, br_t (by rw [nI_clamp (by omega), h3]; decide) (ky_emitT (by omega) (ky_emitT (by omega) (H _)))⟩
theorem ky_emitInt {post : St2 → Prop} {p k : Nat} (hk : k < 4) (hp : p + 4 ≤ 64) (H : ∀ a, (∀ j, j < p → a j = a10 j) → (∀ m, m < 4 → a (p + m) = ky_T sc (nI k) (ky_by (a2 k ^^^ (-2147483648)) m)) → post (f, sc, e, nI (p + 4), ra, a1, a2, a3, a4, a5, a6, a7, a8, a9, a)) : wpX_emitInt post (f, sc, e, nI p, ra, a1, a2, a3, a4, a5, a6, a7, a8, a9, a10) (nI k) := by
  have H' := H (upd (upd (upd (upd a10 p (ky_T sc (nI k) (ky_by (a2 k ^^^ (-2147483648)) 0)).toInt16.toInt32) (p + 1) (ky_T sc (nI k) (ky_by (a2 k ^^^ (-2147483648)) 1)).toInt16.toInt32) (p + 1 + 1) (ky_T sc (nI k) (ky_by (a2 k ^^^ (-2147483648)) 2)).toInt16.toInt32) (p + 1 + 1 + 1) (ky_T sc (nI k) (ky_by (a2 k ^^^ (-2147483648)) 3)).toInt16.toInt32)
    (fun j hj => by rw [pk_un (by omega), pk_un (by omega), pk_un (by omega), pk_un (by omega)])
    (fun m hm => by
      rcases (by omega : m = 0 ∨ m = 1 ∨ m = 2 ∨ m = 3) with z | z | z | z
      · subst z; rw [pk_un (by omega), pk_un (by omega), pk_un (by omega), show p + 0 = p from rfl, pk_us, ky_Tn]
      · subst z; rw [pk_un (by omega), pk_un (by omega), pk_us, ky_Tn]
      · subst z; rw [pk_un (by omega), show p + 2 = p + 1 + 1 from rfl, pk_us, ky_Tn]
      · subst z; rw [show p + 3 = p + 1 + 1 + 1 from rfl, pk_us, ky_Tn])
  refine ⟨pk_in k 4 hk, nm_r (by rw [nI_clamp (by omega)]) ⟨5, ?_⟩⟩
  refine br_f (by decide) (ky_emitT (by omega) (nm_r (e' := nI 16) (by decide) ?_))
  refine br_f (by decide) (ky_emitT (by omega) (nm_r (e' := nI 8) (by decide) ?_))
  refine br_f (by decide) (ky_emitT (by omega) (nm_r (e' := nI 0) (by decide) ?_))
  refine br_f (by decide) (ky_emitT (by omega) (nm_r (e' := -8) (by decide) ?_))
  exact br_t (by decide) H'
theorem ky_isText {post : Int32 → Prop} {k : Int32} (h1 : ky_X sc k → post 1) (h0 : ¬ ky_X sc k → post 0) : wpX_isText post (f, sc, e, pl, ra, a1, a2, a3, a4, a5, a6, a7, a8, a9, a10) k := ⟨h1, h0⟩
theorem ky_nulls {post : Int32 → Prop} {k : Int32} (h : ∀ r, r = 0 ∨ r = 1 → post r) : wpX_nullsFirst post (f, sc, e, pl, ra, a1, a2, a3, a4, a5, a6, a7, a8, a9, a10) k := ⟨fun _ => h 1 (Or.inr rfl), fun _ => h 0 (Or.inl rfl)⟩
theorem ky_any {post : Int32 → Prop} {k : Int32} (h : ∀ r, post r) : wpX_isText post (f, sc, e, pl, ra, a1, a2, a3, a4, a5, a6, a7, a8, a9, a10) k := ⟨fun _ => h 1, fun _ => h 0⟩
theorem ky_enc {post : St2 → Prop} {N k : Nat} (hN : N ≤ 4) (hS : ky_S k a1 a3) (H : ∀ p a, ky_P sc k (a2 k ^^^ (-2147483648)) N p a → post (f, sc, e, nI p, ra, a1, a2, a3, a4, a5, a6, a7, a8, a9, a)) : wpX_encode post (f, sc, e, pl, ra, a1, a2, a3, a4, a5, a6, a7, a8, a9, a10) (nI N) := by
  refine pk_loop (σ := Nat × (Nat → Int32)) (fun n i s => wX_encode_7 post (nI N) n (nI i) f sc e (nI s.1) ra a1 a2 a3 a4 a5 a6 a7 a8 a9 s.2) (fun i s => ky_P sc k (a2 k ^^^ (-2147483648)) i s.1 s.2) N 0 (0, a10) (by omega) ky_P0 ?_ ?_
  · intro n s h
    exact pk_le N N (fun _ => H s.1 s.2 h) (fun z => absurd z (by omega))
  · intro n i s hi h hw
    obtain ⟨p, a⟩ := s
    have hp : p ≤ i + 4 := ky_Ple h
    refine pk_le N i (fun z => absurd z (by omega)) (fun _ => ?_)
    by_cases ek : i = k
    · subst ek
      have e0 : a1 (nI i).toNatClampNeg = 0 := by rw [nI_clamp (by omega)]; exact hS.2.1 (by omega)
      refine ky_nulls (fun r _ => ky_isText (fun hx => ?_) (fun hx => ?_))
      · refine ⟨pk_in i 4 (by omega), br_t e0 (ky_emit (by show p < 64; omega) (br_f (by decide) (ky_emitText (by omega) (hS.2.2 i) (by omega) (fun b => nm_r (nI_1 i) (hw (p + 1 + 2, b) (ky_Pt h hx))))))⟩
      · refine ⟨pk_in i 4 (by omega), br_t e0 (ky_emit (by show p < 64; omega) (br_t rfl (ky_emitInt (by omega) (by omega) (fun b hb ht => nm_r (nI_1 i) (hw (p + 1 + 4, b) (ky_Pi h hb ht))))))⟩
    · have e0 : ¬ a1 (nI i).toNatClampNeg = 0 := by rw [nI_clamp (by omega)]; exact hS.1 i (by omega) ek
      refine ky_nulls (fun r hr => ky_any (fun r' => ⟨pk_in i 4 (by omega), br_f e0 ?_⟩))
      rcases hr with z | z
      · subst z
        exact br_t rfl (ky_emit (by show p < 64; omega) (nm_r (nI_1 i) (hw (p + 1, upd a p 2) (ky_Pn h ek (Or.inr rfl)))))
      · subst z
        exact br_f (by decide) (ky_emit (by show p < 64; omega) (nm_r (nI_1 i) (hw (p + 1, upd a p 0) (ky_Pn h ek (Or.inl rfl)))))
theorem ky_bound {post : Int32 → Prop} {b c : Int32} (H : post 0) : wpX_bound post (f, sc, 0, pl, ra, a1, a2, a3, a4, a5, a6, a7, a8, a9, a10) b c := ⟨1, br_t (by decide) H⟩
theorem ky_match {post : Int32 → St2 → Prop} {N k q : Nat} (hN : N ≤ 4) (hq : q ≤ N) (hS : ky_S k a1 a3) (H : ∀ p a, post 0 (nI N, sc, 0, p, ra, a1, a2, a3, a4, a5, a6, a7, a8, a9, a)) : wpX_matching post (nI N, sc, 0, pl, ra, a1, a2, a3, a4, a5, a6, a7, a8, a9, a10) (nI q) :=
  br_f (nI_pos (by omega)) (br_t (nI_le hq (by omega)) (ky_enc (by omega) hS (fun p a _ => ky_bound (ky_bound (H _ a)))))
theorem ky_add {post : Int32 → St2 → Prop} {N k : Nat} {t : Int32} (hN : N ≤ 4) (hS : ky_S k a1 a3) (h6 : a6 0 = 0) (H : ∀ p a b, ky_P sc k (a2 k ^^^ (-2147483648)) N p a → (∀ j, j < p → b j = vp_nar .short (a j)) → post 0 (nI N, sc, 1, nI p, ra, a1, a2, a3, a4, upd a5 0 0, upd a6 0 1, upd a7 0 t, upd a8 0 (nI p), b, a)) : wpX_add post (nI N, sc, 0, pl, ra, a1, a2, a3, a4, a5, a6, a7, a8, a9, a10) t := by
  refine br_t (by decide) (ky_enc hN hS (fun p a hP => ky_bound ⟨1, br_f (by decide) ⟨pk_in 0 20 (by omega), br_t h6 ?_⟩⟩))
  have hp : p ≤ N + 4 := ky_Ple hP
  refine ⟨pk_in 0 20 (by omega), nm_e ⟨pk_in 0 20 (by omega), nm_e ⟨pk_in 0 20 (by omega), nm_e ?_⟩⟩⟩
  refine pk_loop (fun n i s => wX_add_77 post 0 0 (nI N) sc 0 (nI p) ra n (nI i) a1 a2 a3 a4 a5 (upd a6 0 1) (upd a7 0 t) (upd a8 0 (nI p)) s a) (fun i s => ∀ j, j < i → s j = vp_nar .short (a j)) p 0 a9 (by omega) (fun j hj => absurd hj (by omega)) ?_ ?_
  · intro n s h
    refine pk_le p p (fun _ => ⟨1, br_t (by decide) ⟨pk_in 0 20 (by omega), nm_e (nm_e ?_)⟩⟩) (fun z => absurd z (by omega))
    exact H p a s hP h
  · intro n i s hi h hw
    have e0 : ((0 : Int32) * 64) + nI i = nI i := by rw [Int32.zero_mul, Int32.zero_add]
    refine pk_le p i (fun z => absurd z (by omega)) (fun _ => ⟨pk_in i 64 (by omega), ?_⟩)
    rw [e0, nI_clamp (show i < 2 ^ 31 by omega)]
    refine ⟨pk_in i 1280 (by omega), nm_e (nm_r (nI_1 i) (hw _ (fun j hj => ?_)))⟩
    by_cases ej : j = i
    · rw [ej, pk_us]
    · rw [pk_un ej]; exact h j (by omega)
theorem ky_next {post : Int32 → St2 → Prop} {i : Nat} (hi : i < 64) (H : post (a9 i) (f, sc, e, pl, nI (i + 1), a1, a2, a3, a4, a5, a6, a7, a8, a9, a10)) : wpX_nextByte post (f, sc, e, pl, nI i, a1, a2, a3, a4, a5, a6, a7, a8, a9, a10) 0 := by
  have e0 : ((0 : Int32) * 64) + nI i = nI i := by rw [Int32.zero_mul, Int32.zero_add]
  unfold wpX_nextByte
  dsimp only
  rw [e0, nI_clamp (show i < 2 ^ 31 by omega)]
  exact pk_le 64 i (fun z => absurd z (by omega)) (fun _ => ⟨pk_in i 1280 (by omega), nm_r (nI_1 i) H⟩)
theorem ky_nextT {post : Int32 → St2 → Prop} {i : Nat} {k : Int32} (hi : i < 64) (H : post (ky_T sc k (a9 i)) (f, sc, e, pl, nI (i + 1), a1, a2, a3, a4, a5, a6, a7, a8, a9, a10)) : wpX_nextTurned post (f, sc, e, pl, nI i, a1, a2, a3, a4, a5, a6, a7, a8, a9, a10) 0 k :=
  ky_next hi (br_c (fun h => br_f (by decide) (by rw [ky_T, if_pos h] at H; exact H)) (fun h => br_t rfl (by rw [ky_T, if_neg h] at H; exact H)))
theorem ky_seek {post : Int32 → St2 → Prop} {k : Nat} (hk : k < 4) (h1 : ∀ j, j < k → ¬ a9 j = 1) (h2 : a9 k = 1) (H : post 0 (f, sc, e, pl, nI (k + 1), a1, a2, a3, a4, a5, a6, a7, a8, a9, a10)) : wpX_seek post (f, sc, e, pl, ra, a1, a2, a3, a4, a5, a6, a7, a8, a9, a10) 0 (nI k) := by
  refine pk_loop (σ := Unit) (fun n i _ => wX_seek_7 post 0 (nI k) n (nI i) f sc e pl (nI i) a1 a2 a3 a4 a5 a6 a7 a8 a9 a10) (fun _ _ => True) k 0 () (by omega) trivial ?_ ?_
  · intro n _ _
    exact pk_le k k (fun _ => ky_next (by omega) (br_t h2 H)) (fun z => absurd z (by omega))
  · intro n i _ hi _ hw
    exact pk_le k i (fun z => absurd z (by omega)) (fun _ => ky_next (by omega) (br_f (h1 i hi) (nm_r (nI_1 i) (hw () trivial))))
theorem ky_readInt {post : Int32 → St2 → Prop} {v : Int32} {k : Nat} (hk : k < 4) (hb : ∀ m, m < 4 → ky_T sc (nI k) (a9 (k + 1 + m)) = ky_by v m) (H : post (v ^^^ (-2147483648)) (f, sc, e, pl, nI (k + 5), a1, a2, a3, a4, a5, a6, a7, a8, a9, a10)) : wpX_readInt post (f, sc, e, pl, nI (k + 1), a1, a2, a3, a4, a5, a6, a7, a8, a9, a10) 0 (nI k) := by
  rw [← ky_join v, ← hb 0 (by omega), ← hb 1 (by omega), ← hb 2 (by omega), ← hb 3 (by omega)] at H
  refine ⟨5, ?_⟩
  refine br_f (by decide) (ky_nextT (by omega) (nm_e (nm_r (e' := nI 1) (by decide) ?_)))
  refine br_f (by decide) (ky_nextT (by omega) (nm_e (nm_r (e' := nI 2) (by decide) ?_)))
  refine br_f (by decide) (ky_nextT (by omega) (nm_e (nm_r (e' := nI 3) (by decide) ?_)))
  refine br_f (by decide) (ky_nextT (by omega) (nm_e (nm_r (e' := nI 4) (by decide) ?_)))
  exact br_t (by decide) H
theorem ky_bad {post : Int32 → Prop} {x : Int32} (hb : x < 0 ∨ ¬ x < f) (H : post 1) : wpX_badField post (f, sc, e, pl, ra, a1, a2, a3, a4, a5, a6, a7, a8, a9, a10) x := by
  by_cases h : x < 0
  · exact br_t h H
  · exact br_f h (br_f (hb.resolve_left h) H)
theorem ky_ok {post : Int32 → Prop} {N k : Nat} (hk : k < N) (hN : N ≤ 4) (H : post 0) : wpX_badField post (nI N, sc, e, pl, ra, a1, a2, a3, a4, a5, a6, a7, a8, a9, a10) (nI k) :=
  br_f (nI_pos (by omega)) (br_t (nI_lt hk (by omega)) H)
theorem ky_int0 {post : Int32 → St2 → Prop} {x y : Int32} (hx : ¬ x = 0) (H : post 0 (f, sc, 1, pl, ra, a1, a2, a3, a4, a5, a6, a7, a8, a9, a10)) : wpX_intAt post (f, sc, 1, pl, ra, a1, a2, a3, a4, a5, a6, a7, a8, a9, a10) x y := by
  refine br_c (fun _ => br_f (by decide) H) (fun h => br_f ?_ (br_f (by decide) H))
  obtain ⟨j, hj, rfl⟩ := nI_of h
  have h0 : j ≠ 0 := fun z => hx (by rw [z]; rfl)
  exact nI_nlt (b := 1) (by omega) hj
theorem ky_int1 {post : Int32 → St2 → Prop} {y : Int32} (hy : ¬ y < 0 → y < f → ky_X sc y) (H : post 0 (f, sc, 1, pl, ra, a1, a2, a3, a4, a5, a6, a7, a8, a9, a10)) : wpX_intAt post (f, sc, 1, pl, ra, a1, a2, a3, a4, a5, a6, a7, a8, a9, a10) 0 y :=
  br_f (by decide) (br_t (by decide) (br_t rfl (br_c (fun _ => br_f (by decide) H) (fun h => br_c (fun g => br_t rfl (br_t (hy h g) (br_f (by decide) H))) (fun _ => br_f (by decide) H)))))
theorem ky_int2 {post : Int32 → St2 → Prop} {v : Int32} {N k p : Nat} (hN : N ≤ 4) (hk : k < N) (hx : ¬ ky_X sc (nI k)) (h5 : a5 0 = 0) (hQ : ky_Q sc k v p a9) (H : post (v ^^^ (-2147483648)) (nI N, sc, 1, pl, nI (k + 5), a1, a2, a3, a4, a5, a6, a7, a8, a9, a10)) : wpX_intAt post (nI N, sc, 1, pl, ra, a1, a2, a3, a4, a5, a6, a7, a8, a9, a10) 0 (nI k) := by
  obtain ⟨q1, q2, q3, q4⟩ := hQ
  have h5' : a5 (0 : Int32).toNatClampNeg = 0 := h5
  refine br_f (by decide) (br_t (by decide) (br_t rfl (ky_ok hk hN (br_t rfl (br_f hx (br_t rfl ⟨pk_in 0 20 (by omega), ?_⟩))))))
  rw [h5']
  refine ky_seek (by omega) (fun j hj => ?_) q3 (br_t rfl ⟨pk_in 0 20 (by omega), ?_⟩)
  · rcases q2 j hj with z | z
    · rw [z]; decide
    · rw [z]; decide
  · rw [h5']
    exact ky_readInt (v := v) (by omega) (fun m hm => by rw [q4 m hm, ky_TT]) H
end
end
section
/-! behind the stage: either the field is an int's, and holds the value, or it is bad, or a text's -/
def ky_G (sc : Int32) (N k : Nat) (a2 : Nat → Int32) (x2 x3 x7 x8 : Int32) : Prop := (x7 = 0 ∧ x8 = 0 ∧ k < N ∧ x2 = nI k ∧ ¬ ky_X sc (nI k) ∧ a2 k = x3) ∨ (¬ x7 = 0 ∧ (x2 < 0 ∨ ¬ x2 < nI N)) ∨ (x7 = 0 ∧ ¬ x8 = 0 ∧ ky_X sc x2)
section
variable {f sc e pl ra : Int32} {a1 a2 a3 a4 a5 a6 a7 a8 a9 a10 : Nat → Int32}
theorem ky_setIb {post : Int32 → St2 → Prop} {x y : Int32} (hb : x < 0 ∨ ¬ x < f) (H : post (-1) (f, sc, e, pl, ra, a1, a2, a3, a4, a5, a6, a7, a8, a9, a10)) : wpX_setInt post (f, sc, e, pl, ra, a1, a2, a3, a4, a5, a6, a7, a8, a9, a10) x y := by
  unfold wpX_setInt
  exact ky_bad hb (br_f (by decide) H)
theorem ky_appb {post : Int32 → St2 → Prop} {x y : Int32} (hb : x < 0 ∨ ¬ x < f) (H : post (-1) (f, sc, e, pl, ra, a1, a2, a3, a4, a5, a6, a7, a8, a9, a10)) : wpX_append post (f, sc, e, pl, ra, a1, a2, a3, a4, a5, a6, a7, a8, a9, a10) x y := by
  unfold wpX_append
  exact ky_bad hb (br_f (by decide) H)
theorem ky_setTb {post : Int32 → St2 → Prop} {x : Int32} (hb : x < 0 ∨ ¬ x < f) (H : post (-1) (f, sc, e, pl, ra, a1, a2, a3, a4, a5, a6, a7, a8, a9, a10)) : wpX_setText post (f, sc, e, pl, ra, a1, a2, a3, a4, a5, a6, a7, a8, a9, a10) x := by
  unfold wpX_setText
  exact ky_bad hb (br_f (by decide) H)
theorem ky_setIi {post : Int32 → St2 → Prop} {N k : Nat} {y : Int32} (hN : N ≤ 4) (hk : k < N) (hX : ¬ ky_X sc (nI k)) (H : post 0 (nI N, sc, e, pl, ra, upd a1 k 0, upd a2 k y, a3, a4, a5, a6, a7, a8, a9, a10)) : wpX_setInt post (nI N, sc, e, pl, ra, a1, a2, a3, a4, a5, a6, a7, a8, a9, a10) (nI k) y := by
  have e1 : upd a1 (nI k).toNatClampNeg 0 = upd a1 k 0 := by rw [nI_clamp (by omega)]
  have e2 : upd a2 (nI k).toNatClampNeg y = upd a2 k y := by rw [nI_clamp (by omega)]
  unfold wpX_setInt
  exact ky_ok hk hN (br_t rfl (br_f hX (br_t rfl ⟨pk_in k 4 (by omega), nm_r e1 ⟨pk_in k 4 (by omega), nm_r e2 H⟩⟩)))
theorem ky_appi {post : Int32 → St2 → Prop} {N k : Nat} {y : Int32} (hN : N ≤ 4) (hk : k < N) (hX : ¬ ky_X sc (nI k)) (H : post (-2) (nI N, sc, e, pl, ra, a1, a2, a3, a4, a5, a6, a7, a8, a9, a10)) : wpX_append post (nI N, sc, e, pl, ra, a1, a2, a3, a4, a5, a6, a7, a8, a9, a10) (nI k) y := by
  unfold wpX_append
  exact ky_ok hk hN (br_t rfl (br_f hX (br_t rfl H)))
theorem ky_setTi {post : Int32 → St2 → Prop} {N k : Nat} (hN : N ≤ 4) (hk : k < N) (hX : ¬ ky_X sc (nI k)) (H : post (-2) (nI N, sc, e, pl, ra, a1, a2, a3, a4, a5, a6, a7, a8, a9, a10)) : wpX_setText post (nI N, sc, e, pl, ra, a1, a2, a3, a4, a5, a6, a7, a8, a9, a10) (nI k) := by
  unfold wpX_setText
  exact ky_ok hk hN (br_t rfl (br_f hX (br_t rfl H)))
theorem ky_setIt {post : Int32 → St2 → Prop} {N k : Nat} {y : Int32} (hN : N ≤ 4) (hk : k < N) (hX : ky_X sc (nI k)) (H : post (-2) (nI N, sc, e, pl, ra, a1, a2, a3, a4, a5, a6, a7, a8, a9, a10)) : wpX_setInt post (nI N, sc, e, pl, ra, a1, a2, a3, a4, a5, a6, a7, a8, a9, a10) (nI k) y := by
  unfold wpX_setInt
  exact ky_ok hk hN (br_t rfl (br_t hX (br_f (by decide) H)))
theorem ky_appt {post : Int32 → St2 → Prop} {N k : Nat} {y : Int32} (hN : N ≤ 4) (hk : k < N) (hX : ky_X sc (nI k)) (h1 : ¬ a1 k = 0) (H : post (-2) (nI N, sc, e, pl, ra, a1, a2, a3, a4, a5, a6, a7, a8, a9, a10)) : wpX_append post (nI N, sc, e, pl, ra, a1, a2, a3, a4, a5, a6, a7, a8, a9, a10) (nI k) y := by
  have e0 : ¬ a1 (nI k).toNatClampNeg = 0 := by rw [nI_clamp (by omega)]; exact h1
  unfold wpX_append
  exact ky_ok hk hN (br_t rfl (br_t hX (br_f (by decide) ⟨pk_in k 4 (by omega), br_f e0 H⟩)))
theorem ky_setTt {post : Int32 → St2 → Prop} {N k : Nat} (hN : N ≤ 4) (hk : k < N) (hX : ky_X sc (nI k)) (H : post 0 (nI N, sc, e, pl, ra, upd a1 k 0, a2, upd a3 k 0, a4, a5, a6, a7, a8, a9, a10)) : wpX_setText post (nI N, sc, e, pl, ra, a1, a2, a3, a4, a5, a6, a7, a8, a9, a10) (nI k) := by
  have e1 : upd a1 (nI k).toNatClampNeg 0 = upd a1 k 0 := by rw [nI_clamp (by omega)]
  have e3 : upd a3 (nI k).toNatClampNeg 0 = upd a3 k 0 := by rw [nI_clamp (by omega)]
  unfold wpX_setText
  exact ky_ok hk hN (br_t rfl (br_t hX (br_f (by decide) ⟨pk_in k 4 (by omega), nm_r e1 ⟨pk_in k 4 (by omega), nm_r e3 H⟩⟩)))
end
section
variable {f sc e pl ra : Int32} {a1 a2 a3 a4 a5 a6 a7 a8 a9 a10 : Nat → Int32} {post : Int32 → St0 → Prop} {mc ms kc ks : Nat}
theorem ky_182 {N k : Nat} {x2 x3 x4 x7 x8 z : Int32} (hp : post 1 ()) (hN : N ≤ 4) (hS : ky_S k a1 a3) (h6 : a6 0 = 0) (hG : ky_G sc N k a2 x2 x3 x7 x8) : wL_lawOf_182 post mc ms x2 x3 x4 x7 x8 z z kc ks (nI N) sc 0 pl ra a1 a2 a3 a4 a5 a6 a7 a8 a9 a10 := by
  refine br_t rfl (ky_add hN hS h6 (fun p a b hP hb => br_t rfl ?_))
  by_cases hx4 : x4 = 0
  · subst hx4
    rcases hG with g | g | g
    · obtain ⟨rfl, rfl, hk, rfl, hX, e2⟩ := g
      exact ky_int2 hN hk hX pk_us (ky_Qnar ((hP.2 hk).2.2 hX) hb) (br_t rfl (br_t rfl (br_t rfl (br_t (by rw [ky_xx, e2]) hp))))
    · exact ky_int1 (fun h h' => absurd h' (g.2.resolve_left h)) (br_t rfl (br_f g.1 (br_t rfl hp)))
    · exact ky_int1 (fun _ _ => g.2.2) (br_t rfl (br_t g.1 (br_f g.2.1 (br_t rfl hp))))
  · exact ky_int0 hx4 (br_f hx4 (br_t rfl hp))
theorem ky_153 {N k : Nat} {x2 x3 x4 x7 x8 z : Int32} (hp : post 1 ()) (hN : N ≤ 4) (hS : ky_S k a1 a3) (h6 : a6 0 = 0) (hG : ky_G sc N k a2 x2 x3 x7 x8) : wL_lawOf_153 post mc ms x2 x3 x4 (nI N) x7 x8 z z kc ks (nI N) sc 0 pl ra a1 a2 a3 a4 a5 a6 a7 a8 a9 a10 := by
  refine br_t rfl ?_
  by_cases h : x4 < 0
  · exact br_t h (br_t h (ky_182 hp hN hS h6 hG))
  · by_cases h2 : x4 ≤ nI N
    · obtain ⟨q, hq, rfl⟩ := nI_of h
      exact ky_match hN ((nI_leI hq (by omega)).mp h2) hS (fun p a => br_f h (br_t h2 (ky_182 hp hN hS h6 hG)))
    · exact br_f h (br_f h2 (br_f h (br_f h2 (ky_182 hp hN hS h6 hG))))
theorem ky_30b {N : Nat} {x2 x3 x4 : Int32} (hp : post 1 ()) (hN : N ≤ 4) (h1 : ∀ j, j < 4 → ¬ a1 j = 0) (h3 : ∀ j, a3 j = 0) (h6 : a6 0 = 0) (hb : x2 < 0 ∨ ¬ x2 < nI N) : wL_lawOf_30 post mc ms sc x2 x3 x4 (nI N) kc ks (nI N) sc 0 pl ra a1 a2 a3 a4 a5 a6 a7 a8 a9 a10 := by
  have key : wL_lawOf_42 post mc ms sc x2 x3 x4 (nI N) kc ks (nI N) sc 0 pl ra a1 a2 a3 a4 a5 a6 a7 a8 a9 a10 := by
    refine br_f (by decide) ?_
    unfold wL_lawOf_69 wL_lawOf_70
    refine ky_setIb hb (br_f (by decide) (br_t rfl ?_))
    refine ky_appb hb (br_f (by decide) (br_t rfl ?_))
    refine ky_setTb hb (br_f (by decide) ?_)
    exact ky_153 (k := 4) hp hN ⟨fun j hj _ => h1 j hj, fun z => absurd z (by omega), h3⟩ h6 (Or.inr (Or.inl ⟨by decide, hb⟩))
  by_cases h : x2 < 0
  · exact br_t h key
  · exact br_f h (br_f (hb.resolve_left h) key)
theorem ky_30i {N k : Nat} {x3 x4 : Int32} (hp : post 1 ()) (hN : N ≤ 4) (h1 : ∀ j, j < 4 → ¬ a1 j = 0) (h3 : ∀ j, a3 j = 0) (h6 : a6 0 = 0) (hk : k < N) (hX : ¬ ky_X sc (nI k)) : wL_lawOf_30 post mc ms sc (nI k) x3 x4 (nI N) kc ks (nI N) sc 0 pl ra a1 a2 a3 a4 a5 a6 a7 a8 a9 a10 := by
  refine br_f (nI_pos (by omega)) (br_t (nI_lt hk (by omega)) (br_t rfl (br_f hX ?_)))
  unfold wL_lawOf_69 wL_lawOf_70
  refine ky_setIi hN hk hX (br_t rfl (br_t rfl (br_t rfl ?_)))
  refine ky_appi hN hk hX (br_t rfl (br_t rfl ?_))
  refine ky_setTi hN hk hX (br_t rfl (br_t rfl ?_))
  refine ky_153 (k := k) hp hN ⟨fun j hj hjk => ?_, fun _ => pk_us, h3⟩ h6 (Or.inl ⟨rfl, rfl, hk, rfl, hX, pk_us⟩)
  rw [pk_un hjk]
  exact h1 j hj
theorem ky_30t {N k : Nat} {x3 x4 : Int32} (hp : post 1 ()) (hN : N ≤ 4) (h1 : ∀ j, j < 4 → ¬ a1 j = 0) (h3 : ∀ j, a3 j = 0) (h6 : a6 0 = 0) (hk : k < N) (hX : ky_X sc (nI k)) : wL_lawOf_30 post mc ms sc (nI k) x3 x4 (nI N) kc ks (nI N) sc 0 pl ra a1 a2 a3 a4 a5 a6 a7 a8 a9 a10 := by
  refine br_f (nI_pos (by omega)) (br_t (nI_lt hk (by omega)) (br_t rfl (br_t hX ?_)))
  unfold wL_lawOf_70
  refine ky_setIt hN hk hX (br_t rfl (br_f (by decide) (br_t rfl ?_)))
  refine ky_appt hN hk hX (h1 k (by omega)) (br_t rfl (br_t rfl ?_))
  refine ky_setTt hN hk hX (br_t rfl (br_f (by decide) ?_))
  refine ky_153 (k := k) hp hN ⟨fun j hj hjk => ?_, fun _ => pk_us, fun j => ?_⟩ h6 (Or.inr (Or.inr ⟨rfl, by decide, hX⟩))
  · rw [pk_un hjk]
    exact h1 j hj
  · by_cases ej : j = k
    · rw [ej, pk_us]
    · rw [pk_un ej]; exact h3 j
theorem ky_30 {N : Nat} {x2 x3 x4 : Int32} (hp : post 1 ()) (hN : N ≤ 4) (h1 : ∀ j, j < 4 → ¬ a1 j = 0) (h3 : ∀ j, a3 j = 0) (h6 : a6 0 = 0) : wL_lawOf_30 post mc ms sc x2 x3 x4 (nI N) kc ks (nI N) sc 0 pl ra a1 a2 a3 a4 a5 a6 a7 a8 a9 a10 := by
  rcases pk_ix x2 (n := N) (by omega) with h | h | h
  · exact ky_30b hp hN h1 h3 h6 (Or.inl h)
  · exact ky_30b hp hN h1 h3 h6 (Or.inr (by rw [Int32.not_lt]; exact h))
  · obtain ⟨k, hk, rfl⟩ := h
    by_cases hX : ky_X sc (nI k)
    · exact ky_30t hp hN h1 h3 h6 hk hX
    · exact ky_30i hp hN h1 h3 h6 hk hX
theorem ky_111 {post : St2 → Prop} (H : ∀ a, (∀ j, j < 4 → ¬ a j = 0) → post (f, sc, e, pl, ra, a, a2, a3, a4, a5, a6, a7, a8, a9, a10)) : ∃ n, wX_init_111 post mc ms kc ks f sc e pl ra n 0 a1 a2 a3 a4 a5 a6 a7 a8 a9 a10 := by
  refine pk_loop (fun n i s => wX_init_111 post mc ms kc ks f sc e pl ra n (nI i) s a2 a3 a4 a5 a6 a7 a8 a9 a10) (fun i s => ∀ j, j < i → ¬ s j = 0) 4 0 a1 (by omega) (fun j hj => absurd hj (by omega)) ?_ ?_
  · intro n s h
    exact pk_le 4 4 (fun _ => H s h) (fun z => absurd z (by omega))
  · intro n i s hi h hw
    refine pk_le 4 i (fun z => absurd z (by omega)) (fun _ => ⟨pk_in i 4 hi, nm_e (nm_r (nI_1 i) (hw _ (fun j hj => ?_)))⟩)
    rw [nI_clamp (by omega)]
    by_cases ej : j = i
    · rw [ej, pk_us]; decide
    · rw [pk_un ej]; exact h j (by omega)
theorem ky_lawOf {p0 p1 p2 p3 p4 : Int32} (hp : post 1 ()) : wpL_lawOf post 416 6640 () p0 p1 p2 p3 p4 := by
  refine ⟨by omega, by omega, 10, 1460, by omega, by omega, ?_⟩
  refine ⟨by omega, by omega, by omega, by omega, by omega, by omega, by omega, by omega, by omega, by omega, by omega, by omega, by omega, by omega, by omega, by omega, by omega, by omega, by omega, by omega, ?_⟩
  by_cases h1 : 1 ≤ p0
  · by_cases h4 : p0 ≤ 4
    · have h0 : ¬ p0 < 0 := by
        intro z
        rw [Int32.le_iff_toInt_le] at h1
        rw [Int32.lt_iff_toInt_lt] at z
        have e1 : (1 : Int32).toInt = 1 := by decide
        have e0 : (0 : Int32).toInt = 0 := by decide
        omega
      obtain ⟨N, hN, rfl⟩ := nI_of2 (M := 4) (n := 4) (by decide) h0 h4
      exact br_t h1 (br_t h4 (ky_111 (fun a ha => br_t h1 (br_t h4 (ky_30 hp hN ha (fun _ => rfl) rfl)))))
    · exact br_t h1 (br_f h4 (ky_111 (fun a ha => br_t h1 (br_f h4 (ky_30 (N := 4) hp (by omega) ha (fun _ => rfl) rfl)))))
  · exact br_f h1 (br_t (by decide) (ky_111 (fun a ha => br_f h1 (ky_30 (N := 1) hp (by omega) ha (fun _ => rfl) rfl))))
end
theorem ky_cell {post : Int32 → Prop} {L : Nat} {xs : Nat → Int32} (k : Nat) (hk : k < 5) (hL : L ≤ 5) (H : ∀ r, post r) : wpL_cellAt post L xs () (nI k) :=
  pk_le L k (fun _ => H _) (fun z => ⟨pk_in k L z, H _⟩)
theorem i_vc (xs : Nat → Int32) (L : Nat) (hL : L ≤ 5) : wpL_law (fun r => r = 1) L xs :=
  ky_cell 0 (by omega) hL (fun _ => ky_cell 1 (by omega) hL (fun _ => ky_cell 2 (by omega) hL (fun _ => ky_cell 3 (by omega) hL (fun _ => ky_cell 4 (by omega) hL (fun _ => ⟨416, 6640, by omega, by omega, ky_lawOf rfl⟩)))))
end
