section
/-! rows pasted from kit/rows (starting texts) -/
theorem pk_us {f : Nat → Int32} {k : Nat} {x : Int32} : upd f k x k = x := if_pos rfl
theorem pk_un {f : Nat → Int32} {k j : Nat} {x : Int32} (h : j ≠ k) : upd f k x j = f j := if_neg h
theorem pk_uLs {f : Nat → Int64} {k : Nat} {x : Int64} : vp_updL f k x k = x := if_pos rfl
theorem pk_uLn {f : Nat → Int64} {k j : Nat} {x : Int64} (h : j ≠ k) : vp_updL f k x j = f j := if_neg h
theorem pk_vb (z : Int32) : vp_nar .byte z.toInt8.toInt32 = z.toInt8.toInt32 := by rw [vp_nar_byte]; simp
theorem ts_bit {w : Int64} {s : UInt64} {j : Nat} (hj : j < 64) (hs : s.toNat = j) : ((w.toUInt64 >>> s).toInt64 &&& 1) = 0 ↔ w.toBitVec.getLsbD j = false := by
  have e : (w.toUInt64 >>> s).toInt64.toBitVec = w.toBitVec >>> j := by
    apply BitVec.eq_of_toNat_eq
    show (w.toUInt64 >>> s).toNat = _
    rw [UInt64.toNat_shiftRight, hs, Nat.mod_eq_of_lt hj, BitVec.toNat_ushiftRight]
    rfl
  rw [← Int64.toBitVec_inj, Int64.toBitVec_and, e]
  show w.toBitVec >>> j &&& 1#64 = 0#64 ↔ _
  constructor
  · intro h
    have t := congrArg (fun x => x.getLsbD 0) h
    simpa using t
  · intro h
    apply BitVec.eq_of_getLsbD_eq
    intro i hi
    cases i with
    | zero => simp [h]
    | succ i => simp
theorem ts_or {w m : Int64} {j : Nat} (hj : j < 64) (hm : m.toBitVec = BitVec.twoPow 64 j) : (w ||| m) = w ↔ w.toBitVec.getLsbD j = true := by
  rw [← Int64.toBitVec_inj, Int64.toBitVec_or, hm]
  constructor
  · intro h
    have t := congrArg (fun x => x.getLsbD j) h
    simp only [BitVec.getLsbD_or, BitVec.getLsbD_twoPow] at t
    simpa [hj] using t.symm
  · intro h
    apply BitVec.eq_of_getLsbD_eq
    intro i hi
    rw [BitVec.getLsbD_or, BitVec.getLsbD_twoPow]
    by_cases e : j = i
    · subst e; rw [h, Bool.true_or]
    · simp [e]
/-! bits of a long, as propositions -/
def sc_b (x : Int64) (j : Nat) : Prop := x.toBitVec.getLsbD j = true
theorem sc_or (x y : Int64) (j : Nat) : sc_b (x ||| y) j ↔ sc_b x j ∨ sc_b y j := by
  unfold sc_b
  rw [Int64.toBitVec_or, BitVec.getLsbD_or, Bool.or_eq_true]
theorem sc_and (x y : Int64) (j : Nat) : sc_b (x &&& y) j ↔ sc_b x j ∧ sc_b y j := by
  unfold sc_b
  rw [Int64.toBitVec_and, BitVec.getLsbD_and, Bool.and_eq_true]
theorem sc_0 (j : Nat) : ¬ sc_b 0 j := by
  show ¬ (0#64).getLsbD j = true
  rw [BitVec.getLsbD_zero]
  exact Bool.false_ne_true
theorem sc_ext {x y : Int64} (h : ∀ j, sc_b x j ↔ sc_b y j) : x = y := by
  apply Int64.toBitVec_inj.mp
  apply BitVec.eq_of_getLsbD_eq
  intro j _
  exact Bool.eq_iff_iff.mpr (h j)
theorem sc_pw : ∀ k, k < 5 → ((1 : Int64) <<< ((nI k).toInt64 &&& 63)).toBitVec = BitVec.twoPow 64 k := by decide +kernel
theorem sc_pw1 : ∀ k, k < 5 → (((1 : Int64) <<< ((nI k).toInt64 &&& 63)) - 1).toBitVec = BitVec.ofNat 64 (2 ^ k - 1) := by decide +kernel
theorem sc_sh : ∀ k, k < 5 → ((nI k).toInt64.toUInt64 &&& Int64.toUInt64 63).toNat = k := by decide +kernel
theorem sc_by0 : ∀ m, m < 5 → (nI m).toInt8.toInt32 = nI m := by decide +kernel
theorem sc_p0 : (1 : Int64) <<< ((nI 0).toInt64 &&& 63) = 1 := by decide +kernel
theorem sc_bp {k : Nat} (hk : k < 5) (j : Nat) : sc_b ((1 : Int64) <<< ((nI k).toInt64 &&& 63)) j ↔ j = k := by
  unfold sc_b
  rw [sc_pw k hk, BitVec.getLsbD_twoPow]
  simp only [Bool.and_eq_true, decide_eq_true_eq]
  omega
theorem sc_bm {k : Nat} (hk : k < 5) (j : Nat) : sc_b (((1 : Int64) <<< ((nI k).toInt64 &&& 63)) - 1) j ↔ j < k := by
  unfold sc_b
  rw [sc_pw1 k hk, BitVec.getLsbD_ofNat, Nat.testBit_two_pow_sub_one]
  simp only [Bool.and_eq_true, decide_eq_true_eq]
  omega
/-- X's test of bit k -/
theorem sc_tX (x : Int64) {k : Nat} (hk : k < 5) : (x &&& ((1 : Int64) <<< ((nI k).toInt64 &&& 63))) = 0 ↔ ¬ sc_b x k := by
  constructor
  · intro h hb
    have t := (sc_and x ((1 : Int64) <<< ((nI k).toInt64 &&& 63)) k).mpr ⟨hb, (sc_bp hk k).mpr rfl⟩
    rw [h] at t
    exact sc_0 k t
  · intro hb
    apply sc_ext
    intro j
    rw [sc_and, sc_bp hk]
    exact ⟨fun z => absurd (z.2 ▸ z.1) hb, fun z => absurd z (sc_0 j)⟩
/-- Y's test of bit k -/
theorem sc_tY (x : Int64) {k : Nat} (hk : k < 5) : ((x.toUInt64 >>> ((nI k).toInt64.toUInt64 &&& Int64.toUInt64 63)).toInt64 &&& 1) = 0 ↔ ¬ sc_b x k := by
  rw [ts_bit (by omega) (sc_sh k hk), ← Bool.not_eq_true]
  exact Iff.rfl
theorem sc_same (x : Int64) {k : Nat} (hk : k < 5) : (x ||| ((1 : Int64) <<< ((nI k).toInt64 &&& 63))) = x ↔ sc_b x k := ts_or (by omega) (sc_pw k hk)
theorem sc_low (x : Int64) {k : Nat} (hk : k < 5) : (x &&& (((1 : Int64) <<< ((nI k).toInt64 &&& 63)) - 1)) = 0 ↔ ∀ j, j < k → ¬ sc_b x j := by
  constructor
  · intro h j hj hb
    have t := (sc_and x (((1 : Int64) <<< ((nI k).toInt64 &&& 63)) - 1) j).mpr ⟨hb, (sc_bm hk j).mpr hj⟩
    rw [h] at t
    exact sc_0 j t
  · intro h
    apply sc_ext
    intro j
    rw [sc_and, sc_bm hk]
    exact ⟨fun z => absurd z.1 (h j z.2), fun z => absurd z (sc_0 j)⟩
theorem sc_b1 (j : Nat) : sc_b 1 j ↔ j = 0 := by
  have h := sc_bp (k := 0) (by omega) j
  rw [sc_p0] at h
  exact h
theorem sc_v0 (x : Int64) {k : Nat} (hk : k < 5) (h : ¬ sc_b x k) : ((x.toUInt64 >>> ((nI k).toInt64.toUInt64 &&& Int64.toUInt64 63)).toInt64 &&& 1).toInt32 = 0 := by
  rw [(sc_tY x hk).mpr h]
  rfl
theorem sc_v1 (x : Int64) {k : Nat} (hk : k < 5) (h : sc_b x k) : ((x.toUInt64 >>> ((nI k).toInt64.toUInt64 &&& Int64.toUInt64 63)).toInt64 &&& 1).toInt32 = 1 := by
  have hn : ¬ ((x.toUInt64 >>> ((nI k).toInt64.toUInt64 &&& Int64.toUInt64 63)).toInt64 &&& 1) = 0 := fun z => (sc_tY x hk).mp z h
  revert hn
  generalize (x.toUInt64 >>> ((nI k).toInt64.toUInt64 &&& Int64.toUInt64 63)).toInt64 = y
  intro hn
  have e : (y &&& 1) = 1 := by
    by_cases hb : sc_b y 0
    · apply sc_ext
      intro j
      rw [sc_and, sc_b1]
      exact ⟨fun z => z.2, fun z => ⟨z.symm ▸ hb, z⟩⟩
    · exfalso
      apply hn
      apply sc_ext
      intro j
      rw [sc_and, sc_b1]
      exact ⟨fun z => absurd (z.2 ▸ z.1) hb, fun z => absurd z (sc_0 j)⟩
  rw [e]
  rfl
/-- a small number stored as a byte -/
theorem sc_by {m : Nat} (hm : m < 5) : vp_nar .byte (nI m) = nI m := by rw [vp_nar_byte, sc_by0 m hm]
theorem sc_by2 {m : Nat} (hm : m < 5) : vp_nar .byte (nI m).toInt8.toInt32 = nI m := by rw [pk_vb, sc_by0 m hm]
end
section
/-! plain laws: least transitive relation, Warshall's stages, counting the leaders, labels; no program in sight -/
/-- F is the least transitive relation that holds E -/
def sc_TC (E F : Nat → Nat → Prop) : Prop :=
  (∀ i j, E i j → F i j) ∧ (∀ i j k, F i j → F j k → F i k) ∧
  ∀ S : Nat → Nat → Prop, (∀ i j, E i j → S i j) → (∀ i j k, S i j → S j k → S i k) → ∀ i j, F i j → S i j
/-- one arc more -/
theorem sc_add {E F E' F' : Nat → Nat → Prop} {a b : Nat} (h : sc_TC E F)
    (hE : ∀ i j, E' i j ↔ E i j ∨ (i = a ∧ j = b))
    (hF : ∀ i j, F' i j ↔ F i j ∨ ((i = a ∨ F i a) ∧ (j = b ∨ F b j))) : sc_TC E' F' := by
  obtain ⟨h1, h2, h3⟩ := h
  refine ⟨?_, ?_, ?_⟩
  · intro i j e
    rw [hF]
    rcases (hE i j).mp e with e | ⟨ea, eb⟩
    · exact Or.inl (h1 _ _ e)
    · exact Or.inr ⟨Or.inl ea, Or.inl eb⟩
  · intro i j k x y
    rw [hF] at x y ⊢
    rcases x with x | ⟨xa, xb⟩
    · rcases y with y | ⟨ya, yb⟩
      · exact Or.inl (h2 _ _ _ x y)
      · refine Or.inr ⟨Or.inr ?_, yb⟩
        rcases ya with ya | ya
        · exact ya ▸ x
        · exact h2 _ _ _ x ya
    · rcases y with y | ⟨ya, yb⟩
      · refine Or.inr ⟨xa, Or.inr ?_⟩
        rcases xb with xb | xb
        · exact xb ▸ y
        · exact h2 _ _ _ xb y
      · exact Or.inr ⟨xa, yb⟩
  · intro S s1 s2 i j x
    have sF : ∀ i j, F i j → S i j := h3 S (fun i j e => s1 i j ((hE i j).mpr (Or.inl e))) s2
    have sab : S a b := s1 a b ((hE a b).mpr (Or.inr ⟨rfl, rfl⟩))
    rcases (hF i j).mp x with x | ⟨xa, xb⟩
    · exact sF _ _ x
    · have p : S i b := by
        rcases xa with xa | xa
        · exact xa ▸ sab
        · exact s2 _ _ _ (sF _ _ xa) sab
      rcases xb with xb | xb
      · exact xb ▸ p
      · exact s2 _ _ _ p (sF _ _ xb)
/-- the graph that five longs hold -/
def sc_G (a : Nat → Int64) (i j : Nat) : Prop := i < 5 ∧ j < 5 ∧ sc_b (a i) j
/-- Warshall's stage k over E -/
def sc_W (E : Nat → Nat → Prop) (k : Nat) (W : Nat → Nat → Prop) : Prop :=
  (∀ i j, E i j → W i j) ∧ (∀ i, i < 5 → W i i) ∧ (∀ i j m, m < k → W i m → W m j → W i j) ∧
  ∀ S : Nat → Nat → Prop, (∀ i j, E i j → S i j) → (∀ i, i < 5 → S i i) → (∀ i j k, S i j → S j k → S i k) → ∀ i j, W i j → S i j
theorem sc_W0 {E W : Nat → Nat → Prop} (h : ∀ i j, W i j ↔ E i j ∨ (i = j ∧ i < 5)) : sc_W E 0 W := by
  refine ⟨fun i j e => (h i j).mpr (Or.inl e), fun i hi => (h i i).mpr (Or.inr ⟨rfl, hi⟩), fun i j m hm => absurd hm (by omega), ?_⟩
  intro S s1 s2 _ i j w
  rcases (h i j).mp w with e | ⟨e, hi⟩
  · exact s1 i j e
  · exact e ▸ s2 i hi
theorem sc_Ws {E W W' : Nat → Nat → Prop} {k : Nat} (h : sc_W E k W) (hW : ∀ i j, W' i j ↔ W i j ∨ (W i k ∧ W k j)) : sc_W E (k + 1) W' := by
  obtain ⟨h1, h2, h3, h4⟩ := h
  refine ⟨fun i j e => (hW i j).mpr (Or.inl (h1 i j e)), fun i hi => (hW i i).mpr (Or.inl (h2 i hi)), ?_, ?_⟩
  · intro i j m hm x y
    rw [hW] at x y ⊢
    rcases Nat.lt_or_ge m k with hmk | hmk
    · rcases x with x | ⟨x1, x2⟩
      · rcases y with y | ⟨y1, y2⟩
        · exact Or.inl (h3 _ _ m hmk x y)
        · exact Or.inr ⟨h3 _ _ m hmk x y1, y2⟩
      · rcases y with y | ⟨y1, y2⟩
        · exact Or.inr ⟨x1, h3 _ _ m hmk x2 y⟩
        · exact Or.inr ⟨x1, y2⟩
    · have e : m = k := by omega
      subst e
      have x' : W i m := x.elim id (fun z => z.1)
      have y' : W m j := y.elim id (fun z => z.2)
      exact Or.inr ⟨x', y'⟩
  · intro S s1 s2 s3 i j w
    rcases (hW i j).mp w with w | ⟨w1, w2⟩
    · exact h4 S s1 s2 s3 i j w
    · exact s3 i k j (h4 S s1 s2 s3 i k w1) (h4 S s1 s2 s3 k j w2)
theorem sc_W5 {E W F : Nat → Nat → Prop} (h : sc_W E 5 W) (hW : ∀ i j, W i j → i < 5 ∧ j < 5) (hF : sc_TC E F) (i j : Nat) : W i j ↔ F i j ∨ (i = j ∧ i < 5) := by
  obtain ⟨h1, h2, h3, h4⟩ := h
  obtain ⟨f1, f2, f3⟩ := hF
  constructor
  · refine h4 (fun i j => F i j ∨ (i = j ∧ i < 5)) (fun i j e => Or.inl (f1 i j e)) (fun i hi => Or.inr ⟨rfl, hi⟩) ?_ i j
    intro i j k x y
    rcases x with x | ⟨x, hx⟩
    · rcases y with y | ⟨y, hy⟩
      · exact Or.inl (f2 _ _ _ x y)
      · exact Or.inl (y ▸ x)
    · exact x ▸ y
  · intro x
    rcases x with x | ⟨x, hx⟩
    · exact f3 W h1 (fun i j k p q => h3 i k j (hW i j p).2 p q) i j x
    · exact x ▸ h2 i hx
/-- in one component -/
def sc_Q (F : Nat → Nat → Prop) (i j : Nat) : Prop := (F i j ∧ F j i) ∨ (i = j ∧ i < 5)
theorem sc_Qr (F : Nat → Nat → Prop) {i : Nat} (h : i < 5) : sc_Q F i i := Or.inr ⟨rfl, h⟩
theorem sc_Qs {F : Nat → Nat → Prop} {i j : Nat} (h : sc_Q F i j) : sc_Q F j i := by
  rcases h with h | ⟨e, h⟩
  · exact Or.inl ⟨h.2, h.1⟩
  · exact Or.inr ⟨e.symm, by omega⟩
theorem sc_Qt {F : Nat → Nat → Prop} (hF : ∀ i j k, F i j → F j k → F i k) {i j k : Nat} (h : sc_Q F i j) (h' : sc_Q F j k) : sc_Q F i k := by
  rcases h with h | ⟨e, h⟩
  · rcases h' with h' | ⟨e', _⟩
    · exact Or.inl ⟨hF _ _ _ h.1 h'.1, hF _ _ _ h'.2 h.2⟩
    · exact Or.inl (e' ▸ h)
  · exact e ▸ h'
/-- the number of vertices below i that no smaller one is in one component with -/
noncomputable def sc_n (Q : Nat → Nat → Prop) : Nat → Nat
  | 0 => 0
  | i + 1 => @ite Nat (∀ j, j < i → ¬ Q i j) (Classical.propDecidable _) (sc_n Q i + 1) (sc_n Q i)
theorem sc_nt {Q : Nat → Nat → Prop} {i : Nat} (h : ∀ j, j < i → ¬ Q i j) : sc_n Q (i + 1) = sc_n Q i + 1 := if_pos h
theorem sc_nf {Q : Nat → Nat → Prop} {i : Nat} (h : ¬ ∀ j, j < i → ¬ Q i j) : sc_n Q (i + 1) = sc_n Q i := if_neg h
theorem sc_nle (Q : Nat → Nat → Prop) : ∀ i, sc_n Q i ≤ i := by
  intro i
  induction i with
  | zero => exact Nat.le_refl _
  | succ i ih =>
    by_cases h : ∀ j, j < i → ¬ Q i j
    · rw [sc_nt h]; omega
    · rw [sc_nf h]; omega
/-- the labels of the vertices below i -/
def sc_L (Q : Nat → Nat → Prop) (i : Nat) (L : Nat → Int32) : Prop :=
  (∀ a b, a < i → b < i → (L a = L b ↔ Q a b)) ∧ ∀ a, a < i → ∃ m, m < sc_n Q i ∧ L a = nI m
theorem sc_Lx {Q : Nat → Nat → Prop} {i : Nat} {L : Nat → Int32} {x : Int32} (h : sc_L Q i L) (hr : Q i i) (hs : ∀ a b, Q a b → Q b a) (hx : ∀ a, a < i → (L a = x ↔ Q a i)) (hn : sc_n Q i ≤ sc_n Q (i + 1)) (hm : ∃ m, m < sc_n Q (i + 1) ∧ x = nI m) : sc_L Q (i + 1) (upd L i x) := by
  refine ⟨fun a b ha hb => ?_, fun a ha => ?_⟩
  · by_cases ea : a = i
    · by_cases eb : b = i
      · rw [ea, eb]
        exact ⟨fun _ => hr, fun _ => rfl⟩
      · rw [ea, pk_us, pk_un eb]
        exact ⟨fun z => hs _ _ ((hx b (by omega)).mp z.symm), fun z => ((hx b (by omega)).mpr (hs _ _ z)).symm⟩
    · by_cases eb : b = i
      · rw [eb, pk_us, pk_un ea]
        exact hx a (by omega)
      · rw [pk_un ea, pk_un eb]
        exact h.1 a b (by omega) (by omega)
  · by_cases ea : a = i
    · rw [ea, pk_us]
      exact hm
    · rw [pk_un ea]
      obtain ⟨m, h1, h2⟩ := h.2 a (by omega)
      exact ⟨m, by omega, h2⟩
/-- a vertex with a smaller one in its component -/
theorem sc_Lf {Q : Nat → Nat → Prop} {i f : Nat} {L : Nat → Int32} (hi : i < 5) (h : sc_L Q i L) (hr : Q i i) (hs : ∀ a b, Q a b → Q b a) (ht : ∀ a b c, Q a b → Q b c → Q a c) (hf : f < i) (hq : Q i f) : sc_L Q (i + 1) (upd L i (vp_nar .byte (L f))) ∧ sc_n Q (i + 1) = sc_n Q i := by
  have hn : sc_n Q (i + 1) = sc_n Q i := sc_nf (fun z => z f hf hq)
  have hle := sc_nle Q i
  obtain ⟨m, m1, m2⟩ := h.2 f hf
  have e : vp_nar .byte (L f) = L f := by rw [m2, sc_by (by omega)]
  rw [e]
  refine ⟨sc_Lx h hr hs (fun a ha => ?_) (by omega) ⟨m, by omega, m2⟩, hn⟩
  rw [h.1 a f ha hf]
  exact ⟨fun z => ht _ _ _ z (hs _ _ hq), fun z => ht _ _ _ z hq⟩
/-- a vertex with none -/
theorem sc_Ln {Q : Nat → Nat → Prop} {i : Nat} {L : Nat → Int32} (hi : i < 5) (h : sc_L Q i L) (hr : Q i i) (hs : ∀ a b, Q a b → Q b a) (hq : ∀ j, j < i → ¬ Q i j) : sc_L Q (i + 1) (upd L i (vp_nar .byte (nI (sc_n Q i)).toInt8.toInt32)) ∧ sc_n Q (i + 1) = sc_n Q i + 1 := by
  have hn : sc_n Q (i + 1) = sc_n Q i + 1 := sc_nt hq
  have hle := sc_nle Q i
  rw [sc_by2 (m := sc_n Q i) (by omega)]
  refine ⟨sc_Lx h hr hs (fun a ha => ?_) (by omega) ⟨sc_n Q i, by omega, rfl⟩, hn⟩
  obtain ⟨m, m1, m2⟩ := h.2 a ha
  rw [m2, nI_eq (by omega) (by omega)]
  exact ⟨fun z => absurd z (by omega), fun z => absurd (hs _ _ z) (hq a ha)⟩
/-- what Y's arc does to one of its two tables, up to row i -/
def sc_U (a : Nat) (x : Int64) (f : Nat → Int64) (i : Nat) (F : Nat → Int64) : Prop :=
  (∀ w t, w < i → t < 5 → (sc_b (F w) t ↔ sc_b (f w) t ∨ ((w = a ∨ sc_b (f w) a) ∧ sc_b x t))) ∧ ∀ w, i ≤ w → F w = f w
theorem sc_U0 (a : Nat) (x : Int64) (f : Nat → Int64) : sc_U a x f 0 f := ⟨fun w t hw => absurd hw (by omega), fun _ _ => rfl⟩
theorem sc_Uh {a : Nat} {x : Int64} {f F : Nat → Int64} {i : Nat} (h : sc_U a x f i F) (hc : i = a ∨ sc_b (F i) a) : sc_U a x f (i + 1) (vp_updL F i (F i ||| x)) := by
  refine ⟨fun w t hw ht => ?_, fun w hw => ?_⟩
  · by_cases e : w = i
    · rw [h.2 i (by omega)] at hc ⊢
      rw [e, pk_uLs, sc_or]
      exact ⟨fun z => z.imp id (fun y => ⟨hc, y⟩), fun z => z.imp id (fun y => y.2)⟩
    · rw [pk_uLn e]
      exact h.1 w t (by omega) ht
  · rw [pk_uLn (by omega)]
    exact h.2 w (by omega)
theorem sc_Um {a : Nat} {x : Int64} {f F : Nat → Int64} {i : Nat} (h : sc_U a x f i F) (hc : ¬ (i = a ∨ sc_b (F i) a)) : sc_U a x f (i + 1) F := by
  refine ⟨fun w t hw ht => ?_, fun w hw => h.2 w (by omega)⟩
  by_cases e : w = i
  · rw [h.2 i (by omega)] at hc
    rw [e, h.2 i (by omega)]
    exact ⟨Or.inl, fun z => z.elim id (fun y => absurd y.1 hc)⟩
  · exact h.1 w t (by omega) ht
end
section
/-! the component's walks -/
theorem sc_55 : (5 : Int32) ≤ nI 5 := by decide +kernel
/-- X: reach is out and the diagonal -/
theorem sc_x2 {post : Int32 → SX → Prop} {c : Int32} {out inn : Nat → Int64} {L : Nat → Int32}
    (K : ∀ R : Nat → Int64, (∀ i t, i < 5 → t < 5 → (sc_b (R i) t ↔ sc_b (out i) t ∨ t = i)) → ∃ n31 : Nat, wX_label_31 post c n31 0 out inn R L) :
    ∀ (d i : Nat) (R : Nat → Int64), i + d = 5 → (∀ j t, j < i → t < 5 → (sc_b (R j) t ↔ sc_b (out j) t ∨ t = j)) → wX_label_2 post c (d + 1) (nI i) out inn R L := by
  intro d
  induction d with
  | zero =>
    intro i R hi hR
    have e : i = 5 := by omega
    subst e
    exact br_t sc_55 (K R hR)
  | succ d ih =>
    intro i R hi hR
    have hin : vp_in (nI i) 5 := vp_in_nI (by omega) (by omega)
    refine br_f (lt5' i (by omega)) ⟨hin, hin, fun R' eR x ex => ?_⟩
    rw [nI_clamp (n := i) (by omega)] at eR
    subst eR
    subst ex
    rw [nI_1]
    refine ih (i + 1) _ (by omega) ?_
    intro j t hj ht
    by_cases e : j = i
    · rw [e, pk_uLs, sc_or, sc_bp (by omega)]
    · rw [pk_uLn e]
      exact hR j t (by omega) ht
/-- X: one stage of Warshall -/
theorem sc_x38 {post : Int32 → SX → Prop} {J : Int32 → (Nat → Int64) → (Nat → Int64) → (Nat → Int64) → (Nat → Int32) → Prop} {c : Int32} {out inn : Nat → Int64} {L : Nat → Int32} {k : Nat} (hk : k < 5) (r : Nat → Int64)
    (K : ∀ R : Nat → Int64, (∀ i t, i < 5 → t < 5 → (sc_b (R i) t ↔ sc_b (r i) t ∨ (sc_b (r i) k ∧ sc_b (r k) t))) → J (nI (k + 1)) out inn R L) :
    ∀ (d i : Nat) (R : Nat → Int64), i + d = 5 → (∀ j t, j < i → t < 5 → (sc_b (R j) t ↔ sc_b (r j) t ∨ (sc_b (r j) k ∧ sc_b (r k) t))) → (∀ j, i ≤ j → R j = r j) → wX_label_38 post J (nI k) c (d + 1) (nI i) out inn R L := by
  intro d
  induction d with
  | zero =>
    intro i R hi hR _
    have e : i = 5 := by omega
    subst e
    refine br_t sc_55 (fun x ex => ?_)
    subst ex
    rw [nI_1]
    exact K R hR
  | succ d ih =>
    intro i R hi hR hS
    have hin : vp_in (nI i) 5 := vp_in_nI (by omega) (by omega)
    have hik : vp_in (nI k) 5 := vp_in_nI (by omega) (by omega)
    have hRk : ∀ t, t < 5 → (sc_b (R k) t ↔ sc_b (r k) t) := by
      intro t ht
      rcases Nat.lt_or_ge k i with hki | hki
      · rw [hR k t hki ht]
        exact ⟨fun z => z.elim id (fun y => y.2), Or.inl⟩
      · rw [hS k hki]
    have hRi : R i = r i := hS i (Nat.le_refl i)
    refine br_f (lt5' i (by omega)) ⟨hin, ?_⟩
    rw [nI_clamp (n := i) (by omega), nI_clamp (n := k) (by omega)]
    by_cases hb : sc_b (R i) k
    · refine br_f (fun z => (sc_tX _ hk).mp z hb) ⟨hin, hik, hin, fun R' eR x ex => ?_⟩
      subst eR
      subst ex
      rw [nI_1]
      refine ih (i + 1) _ (by omega) ?_ ?_
      · intro j t hj ht
        by_cases e : j = i
        · rw [hRi] at hb ⊢
          rw [e, pk_uLs, sc_or, hRk t ht]
          exact ⟨fun z => z.imp id (fun y => ⟨hb, y⟩), fun z => z.imp id (fun y => y.2)⟩
        · rw [pk_uLn e]
          exact hR j t (by omega) ht
      · intro j hj
        rw [pk_uLn (by omega)]
        exact hS j (by omega)
    · refine br_t ((sc_tX _ hk).mpr hb) (fun x ex => ?_)
      subst ex
      rw [nI_1]
      refine ih (i + 1) R (by omega) ?_ (fun j hj => hS j (by omega))
      intro j t hj ht
      by_cases e : j = i
      · rw [hRi] at hb
        rw [e, hRi]
        exact ⟨Or.inl, fun z => z.elim id (fun y => absurd y.1 hb)⟩
      · exact hR j t (by omega) ht
/-- X: Warshall -/
theorem sc_x31 {post : Int32 → SX → Prop} {c : Int32} {out inn : Nat → Int64} {L : Nat → Int32} {E : Nat → Nat → Prop}
    (K : ∀ R : Nat → Int64, sc_W E 5 (sc_G R) → ∃ n93 : Nat, wX_label_93 post c n93 0 0 out inn R L) :
    ∀ (d k : Nat) (R : Nat → Int64), k + d = 5 → sc_W E k (sc_G R) → wX_label_31 post c (d + 1) (nI k) out inn R L := by
  intro d
  induction d with
  | zero =>
    intro k R hk h
    have e : k = 5 := by omega
    subst e
    exact br_t sc_55 (K R h)
  | succ d ih =>
    intro k R hk h
    have hk5 : k < 5 := by omega
    refine br_f (lt5' k hk5) ⟨6, ?_⟩
    refine sc_x38 hk5 R (fun R' hR' => ih (k + 1) R' (by omega) (sc_Ws h ?_)) 5 0 R rfl (fun j t hj => absurd hj (by omega)) (fun _ _ => rfl)
    intro i j
    constructor
    · intro z
      rcases (hR' i j z.1 z.2.1).mp z.2.2 with y | y
      · exact Or.inl ⟨z.1, z.2.1, y⟩
      · exact Or.inr ⟨⟨z.1, hk5, y.1⟩, ⟨hk5, z.2.1, y.2⟩⟩
    · intro z
      rcases z with z | ⟨z1, z2⟩
      · exact ⟨z.1, z.2.1, (hR' i j z.1 z.2.1).mpr (Or.inl z.2.2)⟩
      · exact ⟨z1.1, z2.2.1, (hR' i j z1.1 z2.2.1).mpr (Or.inr ⟨z1.2.2, z2.2.2⟩)⟩
/-- X: the search of a smaller vertex in the component of i -/
theorem sc_x103 {post : Int32 → SX → Prop} {J : Int32 → Int32 → (Nat → Int64) → (Nat → Int64) → (Nat → Int64) → (Nat → Int32) → Prop} {c x1 : Int32} {out inn R : Nat → Int64} {L : Nat → Int32} {i : Nat} (hi : i < 5)
    (K0 : (∀ j, j < i → ¬ (sc_b (R i) j ∧ sc_b (R j) i)) → J (x1 + 1) (nI (i + 1)) out inn R (upd L i (vp_nar .byte x1.toInt8.toInt32)))
    (K1 : ∀ f, f < i → (sc_b (R i) f ∧ sc_b (R f) i) → J x1 (nI (i + 1)) out inn R (upd L i (vp_nar .byte (L f)))) :
    ∀ (d j : Nat) (x3 : Int32), j + d = i → ((x3 = -1 ∧ ∀ t, t < j → ¬ (sc_b (R i) t ∧ sc_b (R t) i)) ∨ ∃ f, f < i ∧ x3 = nI f ∧ (sc_b (R i) f ∧ sc_b (R f) i)) → wX_label_103 post J x1 (nI i) c out inn R L (d + 1) x3 (nI j) := by
  intro d
  have hin : vp_in (nI i) 5 := vp_in_nI (by omega) (by omega)
  induction d with
  | zero =>
    intro j x3 hj hI
    have e : j = i := by omega
    subst e
    refine br_t (nI_le (Nat.le_refl _) (by omega)) ?_
    rcases hI with ⟨rfl, hI⟩ | ⟨f, hf, rfl, hq⟩
    · refine br_t (by decide) ⟨hin, fun L' eL y ey z ez => ?_⟩
      rw [nI_clamp (n := j) (by omega)] at eL
      subst eL
      subst ey
      subst ez
      rw [nI_1]
      exact K0 hI
    · refine br_f (nI_pos (by omega)) ⟨vp_in_nI (by omega) (by omega), hin, fun L' eL z ez => ?_⟩
      rw [nI_clamp (n := j) (by omega), nI_clamp (n := f) (by omega)] at eL
      subst eL
      subst ez
      rw [nI_1]
      exact K1 f hf hq
  | succ d ih =>
    intro j x3 hj hI
    have hjn : vp_in (nI j) 5 := vp_in_nI (by omega) (by omega)
    have hj5 : j < 5 := by omega
    refine br_f (nI_ge (by omega) (by omega)) ?_
    rcases hI with ⟨rfl, hI⟩ | ⟨f, hf, rfl, hq⟩
    · refine br_f (by decide) ⟨hin, ?_⟩
      rw [nI_clamp (n := i) (by omega), nI_clamp (n := j) (by omega)]
      by_cases h1 : sc_b (R i) j
      · refine br_f (fun z => (sc_tX _ hj5).mp z h1) ⟨hjn, ?_⟩
        by_cases h2 : sc_b (R j) i
        · refine br_f (fun z => (sc_tX _ hi).mp z h2) (fun y ey => ?_)
          subst ey
          rw [nI_1]
          exact ih (j + 1) (nI j) (by omega) (Or.inr ⟨j, by omega, rfl, h1, h2⟩)
        · refine br_t ((sc_tX _ hi).mpr h2) (fun y ey => ?_)
          subst ey
          rw [nI_1]
          refine ih (j + 1) (-1) (by omega) (Or.inl ⟨rfl, fun t ht z => ?_⟩)
          by_cases e : t = j
          · rw [e] at z
            exact h2 z.2
          · exact hI t (by omega) z
      · refine br_t ((sc_tX _ hj5).mpr h1) (fun y ey => ?_)
        subst ey
        rw [nI_1]
        refine ih (j + 1) (-1) (by omega) (Or.inl ⟨rfl, fun t ht z => ?_⟩)
        by_cases e : t = j
        · rw [e] at z
          exact h1 z.1
        · exact hI t (by omega) z
    · refine br_t (nI_pos' (by omega)) (fun y ey => ?_)
      subst ey
      rw [nI_1]
      exact ih (j + 1) (nI f) (by omega) (Or.inr ⟨f, hf, rfl, hq⟩)
/-- X: the labels -/
theorem sc_x93 {post : Int32 → SX → Prop} {c : Int32} {out inn R : Nat → Int64} {Q : Nat → Nat → Prop}
    (hQ : ∀ i j, i < 5 → j < 5 → ((sc_b (R i) j ∧ sc_b (R j) i) ↔ Q i j)) (hr : ∀ i, i < 5 → Q i i) (hs : ∀ a b, Q a b → Q b a) (ht : ∀ a b c, Q a b → Q b c → Q a c)
    (K : ∀ L : Nat → Int32, sc_L Q 5 L → post (nI (sc_n Q 5)) (nI (sc_n Q 5), out, inn, R, L)) :
    ∀ (d i : Nat) (L : Nat → Int32), i + d = 5 → sc_L Q i L → wX_label_93 post c (d + 1) (nI (sc_n Q i)) (nI i) out inn R L := by
  intro d
  induction d with
  | zero =>
    intro i L hi h
    have e : i = 5 := by omega
    subst e
    exact br_t sc_55 (K L h)
  | succ d ih =>
    intro i L hi h
    have hi5 : i < 5 := by omega
    refine br_f (lt5' i hi5) ⟨i + 1, ?_⟩
    refine sc_x103 hi5 (fun hn => ?_) (fun f hf hq => ?_) i 0 (-1) (by omega) (Or.inl ⟨rfl, fun t hz => absurd hz (by omega)⟩)
    · have g := sc_Ln hi5 h (hr i hi5) hs (fun j hj z => hn j hj ((hQ i j hi5 (by omega)).mpr z))
      rw [nI_1, ← g.2]
      exact ih (i + 1) _ (by omega) g.1
    · have g := sc_Lf hi5 h (hr i hi5) hs ht hf ((hQ i f hi5 (by omega)).mp hq)
      rw [← g.2]
      exact ih (i + 1) _ (by omega) g.1
/-- X: label() -/
theorem sc_xlabel {post : Int32 → SX → Prop} {c : Int32} {out inn r : Nat → Int64} {L : Nat → Int32} {F : Nat → Nat → Prop} (hT : sc_TC (sc_G out) F)
    (K : ∀ (R : Nat → Int64) (L' : Nat → Int32), (∀ i j, i < 5 → j < 5 → (L' i = L' j ↔ sc_Q F i j)) → post (nI (sc_n (sc_Q F) 5)) (nI (sc_n (sc_Q F) 5), out, inn, R, L')) : wpX_label post (c, out, inn, r, L) := by
  refine ⟨6, sc_x2 (fun R hR => ⟨6, sc_x31 (E := sc_G out) (fun R' hW => ⟨6, ?_⟩) 5 0 R rfl (sc_W0 ?_)⟩) 5 0 r rfl (fun j t hj => absurd hj (by omega))⟩
  · have hw := sc_W5 hW (fun i j z => ⟨z.1, z.2.1⟩) hT
    refine sc_x93 (Q := sc_Q F) ?_ (fun i hi => sc_Qr F hi) (fun a b => sc_Qs) (fun a b c => sc_Qt hT.2.1) (fun L' hL => K R' L' hL.1) 5 0 L rfl ⟨fun a b ha => absurd ha (by omega), fun a ha => absurd ha (by omega)⟩
    intro i j hi hj
    have e1 : sc_b (R' i) j ↔ sc_G R' i j := ⟨fun z => ⟨hi, hj, z⟩, fun z => z.2.2⟩
    have e2 : sc_b (R' j) i ↔ sc_G R' j i := ⟨fun z => ⟨hj, hi, z⟩, fun z => z.2.2⟩
    rw [e1, e2, hw, hw]
    constructor
    · intro z
      rcases z with ⟨z1 | z1, z2 | z2⟩
      · exact Or.inl ⟨z1, z2⟩
      · exact Or.inr ⟨z2.1.symm, hi⟩
      · exact Or.inr z1
      · exact Or.inr z1
    · intro z
      rcases z with z | z
      · exact ⟨Or.inl z.1, Or.inl z.2⟩
      · exact ⟨Or.inr z, Or.inr ⟨z.1.symm, hj⟩⟩
  · intro i j
    constructor
    · intro z
      rcases (hR i j z.1 z.2.1).mp z.2.2 with y | y
      · exact Or.inl ⟨z.1, z.2.1, y⟩
      · exact Or.inr ⟨y.symm, z.1⟩
    · intro z
      rcases z with z | ⟨z, hi⟩
      · exact ⟨z.1, z.2.1, (hR i j z.1 z.2.1).mpr (Or.inl z.2.2)⟩
      · exact ⟨hi, by omega, (hR i j hi (by omega)).mpr (Or.inr z.symm)⟩
end
section
/-! the reference's walks -/
/-- Y: label()'s loop -/
theorem sc_y4 {post : Int32 → SY → Prop} {c : Int32} {out fwd bwd : Nat → Int64} {Q : Nat → Nat → Prop}
    (hq : ∀ v t, v < 5 → t < 5 → (sc_b ((fwd v &&& bwd v) ||| ((1 : Int64) <<< ((nI v).toInt64 &&& 63))) t ↔ Q v t))
    (K : ∀ S : Nat → Int64, (∀ i j, i < 5 → j < 5 → (sc_b (S i) j ↔ Q i j)) → post (nI (sc_n Q 5)) (nI (sc_n Q 5), out, fwd, bwd, S)) :
    ∀ (d i : Nat) (S : Nat → Int64), i + d = 5 → (∀ a j, a < i → j < 5 → (sc_b (S a) j ↔ Q a j)) → wY_label_4 post c (d + 1) (nI (sc_n Q i)) (nI i) out fwd bwd S := by
  intro d
  induction d with
  | zero =>
    intro i S hi h
    have e : i = 5 := by omega
    subst e
    exact br_t sc_55 (K S h)
  | succ d ih =>
    intro i S hi h
    have hi5 : i < 5 := by omega
    have hin : vp_in (nI i) 5 := vp_in_nI (by omega) (by omega)
    refine br_f (lt5' i hi5) ⟨hin, hin, fun y ey => ⟨hin, fun S' eS => ?_⟩⟩
    rw [nI_clamp (n := i) (by omega)] at ey eS
    have hS' : ∀ a j, a < i + 1 → j < 5 → (sc_b (S' a) j ↔ Q a j) := by
      intro a j ha hj
      by_cases e : a = i
      · rw [eS, e, pk_uLs, ey]
        exact hq i j hi5 hj
      · rw [eS, pk_uLn e]
        exact h a j (by omega) hj
    by_cases hz : ∀ j, j < i → ¬ Q i j
    · refine br_t ((sc_low y hi5).mpr (fun j hj => ?_)) (fun a ea b eb => ?_)
      · rw [ey, hq i j hi5 (by omega)]
        exact hz j hj
      · subst ea
        subst eb
        rw [nI_1 (sc_n Q i), nI_1 i, ← sc_nt hz]
        exact ih (i + 1) S' (by omega) hS'
    · refine br_f (fun z => hz (fun j hj => ?_)) (fun b eb => ?_)
      · have t := (sc_low y hi5).mp z j hj
        rw [ey, hq i j hi5 (by omega)] at t
        exact t
      · subst eb
        rw [nI_1 i, ← sc_nf hz]
        exact ih (i + 1) S' (by omega) hS'
/-- Y: label() -/
theorem sc_ylabel {post : Int32 → SY → Prop} {c : Int32} {out fwd bwd snap : Nat → Int64} (hB : ∀ i j, i < 5 → j < 5 → (sc_b (bwd i) j ↔ sc_b (fwd j) i))
    (K : ∀ S : Nat → Int64, (∀ i j, i < 5 → j < 5 → (sc_b (S i) j ↔ sc_Q (sc_G fwd) i j)) → post (nI (sc_n (sc_Q (sc_G fwd)) 5)) (nI (sc_n (sc_Q (sc_G fwd)) 5), out, fwd, bwd, S)) : wpY_label post (c, out, fwd, bwd, snap) := by
  refine ⟨6, sc_y4 (Q := sc_Q (sc_G fwd)) ?_ K 5 0 snap rfl (fun a j ha => absurd ha (by omega))⟩
  intro v t hv ht
  rw [sc_or, sc_and, sc_bp hv, hB v t hv ht]
  constructor
  · intro z
    rcases z with z | z
    · exact Or.inl ⟨⟨hv, ht, z.1⟩, ⟨ht, hv, z.2⟩⟩
    · exact Or.inr ⟨z.symm, hv⟩
  · intro z
    rcases z with z | z
    · exact Or.inl ⟨z.1.2.2, z.2.2.2⟩
    · exact Or.inr z.1.symm
section
variable {post : Int32 → SY → Prop} {J : Int32 → (Nat → Int64) → (Nat → Int64) → (Nat → Int64) → (Nat → Int64) → Prop} {c : Int32} {out fwd bwd snap F B : Nat → Int64} {a b i : Nat} {x5 x7 : Int64}
/-- Y: arc()'s loop, bwd's row is stored -/
theorem sc_y136 (hi : i < 5) (h : sc_U b x7 bwd i B) (hc : i = b ∨ sc_b (B i) b)
    (K : ∀ B' : Nat → Int64, sc_U b x7 bwd (i + 1) B' → J (nI (i + 1)) out F B' snap) : wY_arc_136 post J (nI a) (nI b) x5 x7 (nI i) c out F B snap := by
  have hin : vp_in (nI i) 5 := vp_in_nI (by omega) (by omega)
  unfold wY_arc_136
  rw [nI_clamp (n := i) (by omega)]
  refine ⟨hin, hin, fun B' eB y ey => ?_⟩
  subst eB
  subst ey
  rw [nI_1]
  exact K _ (sc_Uh h hc)
/-- Y: arc()'s loop, bwd's row -/
theorem sc_y114 (hi : i < 5) (hb : b < 5) (h : sc_U b x7 bwd i B)
    (K : ∀ B' : Nat → Int64, sc_U b x7 bwd (i + 1) B' → J (nI (i + 1)) out F B' snap) : wY_arc_114 post J (nI a) (nI b) x5 x7 (nI i) c out F B snap := by
  have hin : vp_in (nI i) 5 := vp_in_nI (by omega) (by omega)
  by_cases e : i = b
  · exact br_t (congrArg nI e) (sc_y136 hi h (Or.inl e) K)
  · refine br_f (fun z => e ((nI_eq (by omega) (by omega)).mp z)) ⟨hin, ?_⟩
    rw [nI_clamp (n := i) (by omega)]
    by_cases hx : sc_b (B i) b
    · exact br_f (fun z => (sc_tY _ hb).mp z hx) (sc_y136 hi h (Or.inr hx) K)
    · refine br_t ((sc_tY _ hb).mpr hx) (fun y ey => ?_)
      subst ey
      rw [nI_1]
      exact K _ (sc_Um h (fun z => z.elim e hx))
/-- Y: arc()'s loop, fwd's row is stored -/
theorem sc_y102 (hi : i < 5) (hb : b < 5) (g : sc_U a x5 fwd i F) (hc : i = a ∨ sc_b (F i) a) (h : sc_U b x7 bwd i B)
    (K : ∀ F' B' : Nat → Int64, sc_U a x5 fwd (i + 1) F' → sc_U b x7 bwd (i + 1) B' → J (nI (i + 1)) out F' B' snap) : wY_arc_102 post J (nI a) (nI b) x5 x7 (nI i) c out F B snap := by
  have hin : vp_in (nI i) 5 := vp_in_nI (by omega) (by omega)
  unfold wY_arc_102
  rw [nI_clamp (n := i) (by omega)]
  refine ⟨hin, hin, fun F' eF => ?_⟩
  subst eF
  exact sc_y114 hi hb h (fun B' hB' => K _ B' (sc_Uh g hc) hB')
end
/-- Y: arc()'s loop -/
theorem sc_y74 {post : Int32 → SY → Prop} {c : Int32} {out fwd bwd snap : Nat → Int64} {a b : Nat} {x5 x7 : Int64} (ha : a < 5) (hb : b < 5)
    (K : ∀ F B : Nat → Int64, sc_U a x5 fwd 5 F → sc_U b x7 bwd 5 B → post 1 (c, out, F, B, snap)) :
    ∀ (d i : Nat) (F B : Nat → Int64), i + d = 5 → sc_U a x5 fwd i F → sc_U b x7 bwd i B → wY_arc_74 post (nI a) (nI b) x5 x7 c (d + 1) (nI i) out F B snap := by
  intro d
  induction d with
  | zero =>
    intro i F B hi g h
    have e : i = 5 := by omega
    subst e
    exact br_t sc_55 (K F B g h)
  | succ d ih =>
    intro i F B hi g h
    have hi5 : i < 5 := by omega
    have hin : vp_in (nI i) 5 := vp_in_nI (by omega) (by omega)
    have K' : ∀ F' B' : Nat → Int64, sc_U a x5 fwd (i + 1) F' → sc_U b x7 bwd (i + 1) B' → wY_arc_74 post (nI a) (nI b) x5 x7 c (d + 1) (nI (i + 1)) out F' B' snap := fun F' B' g' h' => ih (i + 1) F' B' (by omega) g' h'
    refine br_f (lt5' i hi5) ?_
    by_cases e : i = a
    · exact br_t (congrArg nI e) (sc_y102 hi5 hb g (Or.inl e) h K')
    · refine br_f (fun z => e ((nI_eq (by omega) (by omega)).mp z)) ⟨hin, ?_⟩
      rw [nI_clamp (n := i) (by omega)]
      by_cases hx : sc_b (F i) a
      · exact br_f (fun z => (sc_tY _ ha).mp z hx) (sc_y102 hi5 hb g (Or.inr hx) h K')
      · exact br_t ((sc_tY _ ha).mpr hx) (sc_y114 hi5 hb h (fun B' hB' => K' F B' (sc_Um g (fun z => z.elim e hx)) hB'))
end
section
/-! the arguments' bounds, and arc() on both sides -/
theorem sc_dich (p0 p1 : Int32) : (p0 < 0 ∨ 4 < p0 ∨ p1 < 0 ∨ ¬ p1 ≤ 4) ∨ ∃ a b : Nat, a < 5 ∧ b < 5 ∧ p0 = nI a ∧ p1 = nI b := by
  by_cases h0 : p0 < 0
  · exact Or.inl (Or.inl h0)
  by_cases h1 : 4 < p0
  · exact Or.inl (Or.inr (Or.inl h1))
  by_cases h2 : p1 < 0
  · exact Or.inl (Or.inr (Or.inr (Or.inl h2)))
  by_cases h3 : p1 ≤ 4
  · obtain ⟨a, ha, ea⟩ := nI_of2 (M := 4) (n := 4) (by decide) h0 (Int32.not_lt.mp h1)
    obtain ⟨b, hb, eb⟩ := nI_of2 (M := 4) (n := 4) (by decide) h2 h3
    exact Or.inr ⟨a, b, by omega, by omega, ea, eb⟩
  · exact Or.inl (Or.inr (Or.inr (Or.inr h3)))
theorem sc_bd {p0 p1 : Int32} {A B : Prop} (h : p0 < 0 ∨ 4 < p0 ∨ p1 < 0 ∨ ¬ p1 ≤ 4) (a : A) : (p0 < 0 → A) ∧ (¬ p0 < 0 → ((4 < p0 → A) ∧ (¬ 4 < p0 → ((p1 < 0 → A) ∧ (¬ p1 < 0 → ((p1 ≤ 4 → B) ∧ (¬ p1 ≤ 4 → A))))))) := by
  refine ⟨fun _ => a, fun n0 => ⟨fun _ => a, fun n1 => ⟨fun _ => a, fun n2 => ⟨fun z => ?_, fun _ => a⟩⟩⟩⟩
  rcases h with h | h | h | h
  · exact absurd h n0
  · exact absurd h n1
  · exact absurd h n2
  · exact absurd z h
theorem sc_gd {a b : Nat} (ha : a < 5) (hb : b < 5) {A B : Prop} (h : B) : (nI a < 0 → A) ∧ (¬ nI a < 0 → ((4 < nI a → A) ∧ (¬ 4 < nI a → ((nI b < 0 → A) ∧ (¬ nI b < 0 → ((nI b ≤ 4 → B) ∧ (¬ nI b ≤ 4 → A))))))) := by
  have h4 : ¬ 4 < nI a := nI_nlt (b := a) (a := 4) (by omega) (by decide)
  have h5 : nI b ≤ 4 := nI_le (b := 4) (by omega) (by decide)
  exact br_f (nI_pos (by omega)) (br_f h4 (br_f (nI_pos (by omega)) (br_t h5 h)))
/-- X: arc() with arguments within -/
theorem sc_xarc {post : Int32 → SX → Prop} {c : Int32} {out inn r : Nat → Int64} {L : Nat → Int32} {a b : Nat} (ha : a < 5) (hb : b < 5)
    (K0 : sc_b (out a) b → post 0 (c, out, inn, r, L))
    (K1 : ¬ sc_b (out a) b → ∀ inn' : Nat → Int64, post 1 (c, vp_updL out a (out a ||| ((1 : Int64) <<< ((nI b).toInt64 &&& 63))), inn', r, L)) : wpX_arc post (c, out, inn, r, L) (nI a) (nI b) := by
  have hia : vp_in (nI a) 5 := vp_in_nI (by omega) (by omega)
  have hib : vp_in (nI b) 5 := vp_in_nI (by omega) (by omega)
  refine sc_gd ha hb (fun x ex => ⟨hia, ?_⟩)
  subst ex
  rw [nI_clamp (n := a) (by omega)]
  by_cases h : sc_b (out a) b
  · exact br_f (fun z => (sc_tX _ hb).mp z h) (K0 h)
  · refine br_t ((sc_tX _ hb).mpr h) ⟨hia, hia, fun o eo => ⟨hib, hib, fun q eq => ?_⟩⟩
    rw [eo]
    exact K1 h q
/-- Y: arc() with arguments within -/
theorem sc_yarc {post : Int32 → SY → Prop} {c : Int32} {out fwd bwd snap : Nat → Int64} {a b : Nat} (ha : a < 5) (hb : b < 5)
    (K0 : sc_b (out a) b → post 0 (c, out, fwd, bwd, snap))
    (K1 : ¬ sc_b (out a) b → ∀ F B : Nat → Int64, sc_U a (fwd b ||| ((1 : Int64) <<< ((nI b).toInt64 &&& 63))) fwd 5 F → sc_U b (bwd a ||| ((1 : Int64) <<< ((nI a).toInt64 &&& 63))) bwd 5 B → post 1 (c, vp_updL out a (out a ||| ((1 : Int64) <<< ((nI b).toInt64 &&& 63))), F, B, snap)) : wpY_arc post (c, out, fwd, bwd, snap) (nI a) (nI b) := by
  have hia : vp_in (nI a) 5 := vp_in_nI (by omega) (by omega)
  have hib : vp_in (nI b) 5 := vp_in_nI (by omega) (by omega)
  refine sc_gd ha hb ⟨hia, fun x ex => ⟨hia, hia, fun o eo => ?_⟩⟩
  rw [nI_clamp (n := a) (by omega)] at ex eo ⊢
  subst ex
  by_cases h : sc_b (out a) b
  · have e := (sc_same (out a) hb).mpr h
    refine br_t e ?_
    have eo' : o = out := by
      rw [eo, e]
      funext j
      by_cases ej : j = a
      · rw [ej, pk_uLs]
      · rw [pk_uLn ej]
    rw [eo']
    exact K0 h
  · refine br_f (fun z => h ((sc_same (out a) hb).mp z)) ⟨hib, fun y ey => ⟨hia, fun z ez => ⟨6, ?_⟩⟩⟩
    rw [nI_clamp (n := b) (by omega)] at ey
    subst ey
    subst ez
    subst eo
    exact sc_y74 ha hb (K1 h) 5 0 fwd bwd rfl (sc_U0 _ _ _) (sc_U0 _ _ _)
end
section
/-! what is owed -/
/-- count and out are the same; fwd is the least transitive relation over out, bwd its converse; once label() was asked, labels are equal exactly where snap says so -/
def i_Rel (_ : Nat) (u : SX) (v : SY) : Prop :=
  ∃ (c : Int32) (out inn r : Nat → Int64) (L : Nat → Int32) (fwd bwd snap : Nat → Int64),
    u = (c, out, inn, r, L) ∧ v = (c, out, fwd, bwd, snap) ∧ sc_TC (sc_G out) (sc_G fwd) ∧
    (∀ i j, i < 5 → j < 5 → (sc_b (bwd i) j ↔ sc_b (fwd j) i)) ∧
    (c = 0 ∨ ∀ i j, i < 5 → j < 5 → (L i = L j ↔ sc_b (snap i) j))
theorem i_up {k : Nat} {u : SX} {v : SY} (h : i_Rel k u v) : i_Rel (k + 3) u v := h
theorem sc_vc0 : i_Rel 0 (0, (fun _ => 0), (fun _ => 0), (fun _ => 0), (fun _ => 0)) (0, (fun _ => 0), (fun _ => 0), (fun _ => 0), (fun _ => 0)) := by
  refine ⟨0, fun _ => 0, fun _ => 0, fun _ => 0, fun _ => 0, fun _ => 0, fun _ => 0, fun _ => 0, rfl, rfl, ⟨fun _ _ h => h, ?_, ?_⟩, ?_, Or.inl rfl⟩
  · intro i j k h
    exact absurd h.2.2 (sc_0 j)
  · intro S _ _ i j h
    exact absurd h.2.2 (sc_0 j)
  · intro i j _ _
    exact ⟨fun h => absurd h (sc_0 j), fun h => absurd h (sc_0 i)⟩
theorem i_vc0 : wpX_init (fun u => wpY_init (fun v => i_Rel 0 u v)) := sc_vc0
theorem i_vc_arc {k : Nat} {u : SX} {v : SY} (I : i_Rel k u v) (hk : k + 3 ≤ 1536) (v1 : Int32) (v2 : Int32) : wpX_arc (fun r u' => wpY_arc (fun r' v' => r' = r ∧ i_Rel (k + 3) u' v') v v1 v2) u v1 v2 := by
  have I' : i_Rel (k + 3) u v := I
  obtain ⟨c, out, inn, r, L, fwd, bwd, snap, rfl, rfl, hT, hB, hC⟩ := I
  rcases sc_dich v1 v2 with h | ⟨a, b, ha, hb, rfl, rfl⟩
  · exact sc_bd h (sc_bd h ⟨rfl, I'⟩)
  · refine sc_xarc ha hb (fun h => sc_yarc ha hb (fun _ => ⟨rfl, I'⟩) (fun n => absurd h n)) (fun n inn' => sc_yarc ha hb (fun h => absurd h n) (fun _ F B hF hG => ⟨rfl, ?_⟩))
    refine ⟨c, _, inn', r, L, F, B, snap, rfl, rfl, sc_add (a := a) (b := b) hT ?_ ?_, ?_, hC⟩
    · intro i j
      constructor
      · intro z
        obtain ⟨hi, hj, z⟩ := z
        by_cases e : i = a
        · rw [e, pk_uLs, sc_or, sc_bp hb] at z
          rcases z with z | z
          · exact Or.inl ⟨hi, hj, e.symm ▸ z⟩
          · exact Or.inr ⟨e, z⟩
        · rw [pk_uLn e] at z
          exact Or.inl ⟨hi, hj, z⟩
      · intro z
        by_cases e : i = a
        · refine ⟨by omega, ?_, ?_⟩
          · rcases z with z | z
            · exact z.2.1
            · omega
          · rw [e, pk_uLs, sc_or, sc_bp hb]
            rcases z with z | z
            · exact Or.inl (e ▸ z.2.2)
            · exact Or.inr z.2
        · rcases z with z | z
          · refine ⟨z.1, z.2.1, ?_⟩
            rw [pk_uLn e]
            exact z.2.2
          · exact absurd z.1 e
    · intro i j
      constructor
      · intro z
        obtain ⟨hi, hj, z⟩ := z
        rw [hF.1 i j hi hj, sc_or, sc_bp hb] at z
        rcases z with z | ⟨z1, z2⟩
        · exact Or.inl ⟨hi, hj, z⟩
        · exact Or.inr ⟨z1.imp id (fun y => ⟨hi, ha, y⟩), z2.symm.imp id (fun y => ⟨hb, hj, y⟩)⟩
      · intro z
        have hi : i < 5 := by
          rcases z with z | ⟨z | z, _⟩
          · exact z.1
          · omega
          · exact z.1
        have hj : j < 5 := by
          rcases z with z | ⟨_, z | z⟩
          · exact z.2.1
          · omega
          · exact z.2.1
        refine ⟨hi, hj, ?_⟩
        rw [hF.1 i j hi hj, sc_or, sc_bp hb]
        rcases z with z | ⟨z1, z2⟩
        · exact Or.inl z.2.2
        · exact Or.inr ⟨z1.imp id (fun y => y.2.2), (z2.imp id (fun y => y.2.2)).symm⟩
    · intro i j hi hj
      rw [hG.1 i j hi hj, hF.1 j i hj hi, sc_or, sc_or, sc_bp ha, sc_bp hb, hB i j hi hj, hB i b hi hb, hB a j ha hj]
      exact ⟨fun z => z.imp id (fun y => ⟨y.2.symm, y.1.symm⟩), fun z => z.imp id (fun y => ⟨y.2.symm, y.1.symm⟩)⟩
theorem i_vc_label {k : Nat} {u : SX} {v : SY} (I : i_Rel k u v) (hk : k + 3 ≤ 1536) : wpX_label (fun r u' => wpY_label (fun r' v' => r' = r ∧ i_Rel (k + 3) u' v') v) u := by
  obtain ⟨c, out, inn, r, L, fwd, bwd, snap, rfl, rfl, hT, hB, hC⟩ := I
  refine sc_xlabel hT (fun R L' hL => sc_ylabel hB (fun S hS => ⟨rfl, ?_⟩))
  refine ⟨_, out, inn, R, L', fwd, bwd, S, rfl, rfl, hT, hB, Or.inr (fun i j hi hj => ?_)⟩
  rw [hL i j hi hj, hS i j hi hj]
theorem i_vc_together {k : Nat} {u : SX} {v : SY} (I : i_Rel k u v) (hk : k + 3 ≤ 1536) (v1 : Int32) (v2 : Int32) : wpX_together (fun r => wpY_together (fun r' => r' = r ∧ i_Rel (k + 3) u v) v v1 v2) u v1 v2 := by
  have I' : i_Rel (k + 3) u v := I
  obtain ⟨c, out, inn, r, L, fwd, bwd, snap, rfl, rfl, hT, hB, hC⟩ := I
  rcases sc_dich v1 v2 with h | ⟨a, b, ha, hb, rfl, rfl⟩
  · exact sc_bd h (sc_bd h ⟨rfl, I'⟩)
  · have hia : vp_in (nI a) 5 := vp_in_nI (by omega) (by omega)
    have hib : vp_in (nI b) 5 := vp_in_nI (by omega) (by omega)
    by_cases h0 : c = 0
    · exact sc_gd ha hb (br_t h0 (sc_gd ha hb (br_t h0 ⟨rfl, I'⟩)))
    · have hC' := (hC.resolve_left h0) a b ha hb
      have ea : (nI a).toNatClampNeg = a := nI_clamp (by omega)
      have eb : (nI b).toNatClampNeg = b := nI_clamp (by omega)
      by_cases e : L a = L b
      · refine sc_gd ha hb (br_f h0 ⟨hia, hib, br_t (by rw [ea, eb]; exact e) (sc_gd ha hb (br_f h0 ⟨hia, ?_, I'⟩))⟩)
        rw [ea]
        exact sc_v1 _ hb (hC'.mp e)
      · refine sc_gd ha hb (br_f h0 ⟨hia, hib, br_f (by rw [ea, eb]; exact e) (sc_gd ha hb (br_f h0 ⟨hia, ?_, I'⟩))⟩)
        rw [ea]
        exact sc_v0 _ hb (fun z => e (hC'.mpr z))
theorem i_vc_components {k : Nat} {u : SX} {v : SY} (I : i_Rel k u v) (hk : k + 3 ≤ 1536) : wpX_components (fun r => wpY_components (fun r' => r' = r ∧ i_Rel (k + 3) u v) v) u := by
  have I' : i_Rel (k + 3) u v := I
  obtain ⟨c, out, inn, r, L, fwd, bwd, snap, rfl, rfl, hT, hB, hC⟩ := I
  exact ⟨rfl, I'⟩
end
