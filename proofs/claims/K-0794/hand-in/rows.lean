section
/-! ===== what a char holds; the word of two chars ===== -/
def hh_C (x : Int32) : Prop := ∃ m : Nat, m < 65536 ∧ x = nI m
def hh_A (f : Nat → Int32) : Prop := ∀ j, hh_C (f j)
theorem hh_nar {x : Int32} (h : hh_C x) : vp_nar .char x = x := by
  obtain ⟨q, hq, rfl⟩ := h
  rw [vp_nar_char]
  apply Int32.toBitVec_inj.mp
  apply BitVec.eq_of_toNat_eq
  show (nI q).toUInt32.toUInt16.toUInt32.toNat = q % 2 ^ 32
  rw [UInt16.toNat_toUInt32, UInt32.toNat_toUInt16, show (nI q).toUInt32.toNat = q % 2 ^ 32 from rfl]
  omega
theorem hh_cast {x : Int32} (h : hh_C x) : (x.toUInt32 % 65536).toInt32 = x := by
  obtain ⟨q, hq, rfl⟩ := h
  apply Int32.toBitVec_inj.mp
  apply BitVec.eq_of_toNat_eq
  show ((nI q).toUInt32 % 65536).toNat = q % 2 ^ 32
  rw [UInt32.toNat_mod, show (nI q).toUInt32.toNat = q % 2 ^ 32 from rfl]
  show q % 2 ^ 32 % 65536 = q % 2 ^ 32
  omega
theorem hh_nc {x : Int32} (h : hh_C x) : vp_nar .char ((x.toUInt32 % 65536).toInt32) = x := by
  rw [hh_cast h, hh_nar h]
theorem hh_upd {f : Nat → Int32} (hf : hh_A f) (k : Nat) {x : Int32} (hx : hh_C x) : hh_A (upd f k x) := by
  intro j
  show hh_C (if j = k then x else f j)
  split
  · exact hx
  · exact hf j
theorem hh_pred {a : Nat} {f : Int32} (hf : hh_C f) (ha : a ≤ 65535) (h : ¬ nI a ≤ f) : hh_C (nI a - 1) := by
  obtain ⟨q, hq, rfl⟩ := hf
  rw [nI_leI (by omega) (by omega)] at h
  obtain ⟨a', rfl⟩ : ∃ a', a = a' + 1 := ⟨a - 1, by omega⟩
  exact ⟨a', by omega, nI_pred a'⟩
theorem hh_succ {b : Nat} (hb : b ≤ 65534) : hh_C (nI b + 1) := ⟨b + 1, by omega, nI_1 b⟩
/-! the next three rows: kit/rows/BITS -/
theorem u_tn {n : Nat} (h : n < 2 ^ 64) : (UInt64.ofNat n).toNat = n := Nat.mod_eq_of_lt h
theorem g_or {k p a b : Nat} (hp : 2 ^ k = p) (ha : a < p) (h : b * p + a < 2 ^ 64) : lN (b * p) ||| lN a = lN (b * p + a) := by
  subst hp
  have h1 : b * 2 ^ k ||| a = b * 2 ^ k + a := by rw [← Nat.shiftLeft_eq, Nat.shiftLeft_add_eq_or_of_lt ha]
  have h3 : UInt64.ofNat (b * 2 ^ k) ||| UInt64.ofNat a = UInt64.ofNat (b * 2 ^ k + a) := UInt64.toNat_inj.mp (by rw [UInt64.toNat_or, u_tn (by omega), u_tn (by omega), u_tn h, h1])
  have h2 := congrArg UInt64.toInt64 h3
  exact h2
theorem g_shl {a k p : Nat} {y : Int64} (hy : y.toBitVec.smod 64 = BitVec.ofNat 64 k) (hk : k < 64) (hp : 2 ^ k = p) (ha : a < 2 ^ 64) : lN a <<< y = lN (a * p) := by
  subst hp
  apply Int64.toBitVec_inj.mp
  rw [Int64.toBitVec_shiftLeft, hy]
  apply BitVec.eq_of_toNat_eq
  have hb : (lN a).toBitVec.toNat = a := Nat.mod_eq_of_lt ha
  have hk' : (BitVec.ofNat 64 k).toNat = k := Nat.mod_eq_of_lt (by omega)
  have h : ((lN a).toBitVec <<< BitVec.ofNat 64 k).toNat = (a * 2 ^ k) % 2 ^ 64 := by simp only [BitVec.shiftLeft_eq', BitVec.toNat_shiftLeft, hb, hk', Nat.shiftLeft_eq]
  exact h
theorem hh_val {x y : Int32} (hx : hh_C x) (hy : hh_C y) : (x.toInt64 <<< ((16 : Int32).toInt64 &&& 63)) ||| y.toInt64 = x.toInt64 * 65536 + y.toInt64 := by
  obtain ⟨p, hp, rfl⟩ := hx
  obtain ⟨q, hq, rfl⟩ := hy
  have h1 : (nI p).toInt64 = lN p := nI_l (by omega)
  have h2 : (nI q).toInt64 = lN q := nI_l (by omega)
  have h3 : lN p <<< ((16 : Int32).toInt64 &&& 63) = lN (p * 65536) := g_shl (k := 16) (by decide) (by decide) (by decide) (by omega)
  have h4 : lN p * 65536 = lN (p * 65536) := lN_mul p 65536
  rw [h1, h2, h3, h4, lN_add]
  exact g_or (k := 16) (p := 65536) (by decide) hq (by omega)
end
section
/-! ===== the state that both sides share; frag's two loops in lockstep: one outcome for both ===== -/
def hh_ok (u : SX) : Prop := (∃ c : Nat, c ≤ 8 ∧ u.1 = nI c) ∧ hh_A u.2.1 ∧ hh_A u.2.2.1 ∧ hh_A u.2.2.2.1 ∧ hh_A u.2.2.2.2
theorem hh_okI {c : Nat} {F L NF NL : Nat → Int32} (hc : c ≤ 8) (hF : hh_A F) (hL : hh_A L) (hNF : hh_A NF) (hNL : hh_A NL) : hh_ok (nI c, F, L, NF, NL) :=
  And.intro ⟨c, hc, rfl⟩ (And.intro hF (And.intro hL (And.intro hNF hNL)))
/-- the copy back: loops 171 and 181 -/
theorem hh_copy {m : Nat} (hm : m ≤ 8) (t fc : Int32) (ht : t = 0 ∨ t = 1) {NF NL : Nat → Int32} (hNF : hh_A NF) (hNL : hh_A NL) : ∀ (d j : Nat) (F L : Nat → Int32), j + d = m → hh_A F → hh_A L → ∃ F' L' : Nat → Int32, hh_A F' ∧ hh_A L' ∧
    (∀ post : Int32 → SX → Prop, post t (nI m, F', L', NF, NL) → wX_frag_171 post (nI m) t fc (d + 1) (nI j) F L NF NL) ∧
    (∀ post : Int32 → SY → Prop, post t (nI m, F', L', NF, NL) → wY_frag_181 post t (nI m) fc (d + 1) (nI j) F L NF NL) := by
  intro d
  induction d with
  | zero =>
    intro j F L hj hF hL
    have h : nI m ≤ nI j := nI_le (by omega) (by omega)
    refine ⟨F, L, hF, hL, fun post hp => br_t h ?_, fun post hp => br_t h hp⟩
    rcases ht with rfl | rfl
    · exact br_t rfl hp
    · exact br_f (by decide) hp
  | succ d ih =>
    intro j F L hj hF hL
    have h : ¬ nI m ≤ nI j := nI_ge (by omega) (by omega)
    have h8 : vp_in (nI j) 8 := vp_in_nI (by omega) (by decide)
    have h16 : vp_in (nI j) 16 := vp_in_nI (by omega) (by decide)
    have e1 := hNF (nI j).toNatClampNeg
    have e2 := hNL (nI j).toNatClampNeg
    obtain ⟨F', L', hF', hL', hX, hY⟩ := ih (j + 1) (upd F (nI j).toNatClampNeg (NF (nI j).toNatClampNeg)) (upd L (nI j).toNatClampNeg (NL (nI j).toNatClampNeg)) (by omega) (hh_upd hF _ e1) (hh_upd hL _ e2)
    refine ⟨F', L', hF', hL', fun post hp => br_f h ⟨h16, h8, nm_e ⟨h16, h8, nm_e (nm_r (nI_1 j) (hX post hp))⟩⟩, fun post hp => br_f h ⟨h16, h16, nm_r (congrArg (upd F (nI j).toNatClampNeg) (hh_nar e1)) ⟨h16, h16, nm_r (congrArg (upd L (nI j).toNatClampNeg) (hh_nar e2)) (nm_r (nI_1 j) (hY post hp))⟩⟩⟩
/-- what the scan owes at fuel d, hole i, n written, touched t -/
def hh_G (a b c : Nat) (x3 : Int32) (d i n : Nat) (t : Int32) (F L NF NL : Nat → Int32) : Prop :=
  ∃ (r : Int32) (u' : SX), hh_ok u' ∧
    (∀ post : Int32 → SX → Prop, post r u' → wX_frag_26 post (nI a) (nI b) x3 (nI c) d (nI n) t (nI i) F L NF NL) ∧
    (∀ post : Int32 → SY → Prop, post r u' → wY_frag_32 post (nI a) (nI b) x3 (nI c) (nI c) d t (nI n) (nI i) F L NF NL)
/-- the hole is kept: joins 65 and 69 -/
theorem hh_65 {a b c d i n : Nat} {x3 t f l : Int32} {F L NF NL : Nat → Int32} (hc : c ≤ 8) (hi : i < c) (hn : n ≤ 2 * i + 1) (hf : hh_C f) (hl : hh_C l) (hNF : hh_A NF) (hNL : hh_A NL)
    (IH : ∀ (n' : Nat) (NF' NL' : Nat → Int32), n' ≤ 2 * (i + 1) → hh_A NF' → hh_A NL' → hh_G a b c x3 d (i + 1) n' t F L NF' NL') :
    ∃ (r : Int32) (u' : SX), hh_ok u' ∧
    (∀ post : Int32 → SX → Prop, post r u' → wX_frag_65 post (wX_frag_26 post (nI a) (nI b) x3 (nI c) d) (nI a) (nI b) x3 (nI n) t (nI i) f l (nI c) F L NF NL) ∧
    (∀ post : Int32 → SY → Prop, post r u' → wY_frag_69 post (wY_frag_32 post (nI a) (nI b) x3 (nI c) (nI c) d) (nI a) (nI b) x3 (nI c) t (nI n) (nI i) f l (nI c) F L NF NL) := by
  have hin : vp_in (nI n) 16 := vp_in_nI (by omega) (by decide)
  obtain ⟨r, u', ok, hX, hY⟩ := IH (n + 1) (upd NF (nI n).toNatClampNeg f) (upd NL (nI n).toNatClampNeg l) (by omega) (hh_upd hNF _ hf) (hh_upd hNL _ hl)
  refine ⟨r, u', ok, fun post hp => ?_, fun post hp => ?_⟩
  · exact And.intro hin (nm_e ⟨hin, nm_e (nm_r (nI_1 n) (nm_r (nI_1 i) (hX post hp)))⟩)
  · exact And.intro hin (nm_r (congrArg (upd NF (nI n).toNatClampNeg) (hh_nc hf)) ⟨hin, nm_r (congrArg (upd NL (nI n).toNatClampNeg) (hh_nc hl)) (nm_r (nI_1 n) (nm_r (nI_1 i) (hY post hp)))⟩)
/-- the hole's right rest: joins 120 and 128 -/
theorem hh_120 {a b c d i n : Nat} {x3 t l : Int32} {F L NF NL : Nat → Int32} (hb : b ≤ 65534) (hc : c ≤ 8) (hi : i < c) (hn : n ≤ 2 * i + 1) (hl : hh_C l) (hNF : hh_A NF) (hNL : hh_A NL)
    (IH : ∀ (n' : Nat) (NF' NL' : Nat → Int32), n' ≤ 2 * (i + 1) → hh_A NF' → hh_A NL' → hh_G a b c x3 d (i + 1) n' t F L NF' NL') :
    ∃ (r : Int32) (u' : SX), hh_ok u' ∧
    (∀ post : Int32 → SX → Prop, post r u' → wX_frag_120 post (wX_frag_26 post (nI a) (nI b) x3 (nI c) d) (nI a) (nI b) x3 (nI n) t (nI i) l (nI c) F L NF NL) ∧
    (∀ post : Int32 → SY → Prop, post r u' → wY_frag_128 post (wY_frag_32 post (nI a) (nI b) x3 (nI c) (nI c) d) (nI a) (nI b) x3 (nI c) t (nI n) (nI i) l (nI c) F L NF NL) := by
  have hin : vp_in (nI n) 16 := vp_in_nI (by omega) (by decide)
  by_cases h1 : l ≤ nI b
  · obtain ⟨r, u', ok, hX, hY⟩ := IH n NF NL (by omega) hNF hNL
    exact ⟨r, u', ok, fun post hp => br_t h1 (nm_r (nI_1 i) (hX post hp)), fun post hp => br_t h1 (nm_r (nI_1 i) (hY post hp))⟩
  · by_cases h2 : x3 = 0
    · obtain ⟨r, u', ok, hX, hY⟩ := IH n NF NL (by omega) hNF hNL
      exact ⟨r, u', ok, fun post hp => br_f h1 (br_t h2 (nm_r (nI_1 i) (hX post hp))), fun post hp => br_f h1 (br_t h2 (nm_r (nI_1 i) (hY post hp)))⟩
    · have hb1 : hh_C (nI b + 1) := hh_succ hb
      obtain ⟨r, u', ok, hX, hY⟩ := IH (n + 1) (upd NF (nI n).toNatClampNeg (nI b + 1)) (upd NL (nI n).toNatClampNeg l) (by omega) (hh_upd hNF _ hb1) (hh_upd hNL _ hl)
      refine ⟨r, u', ok, fun post hp => br_f h1 (br_f h2 ⟨hin, nm_e ⟨hin, nm_e (nm_r (nI_1 n) (nm_r (nI_1 i) (hX post hp)))⟩⟩), fun post hp => br_f h1 (br_f h2 ⟨hin, nm_r (congrArg (upd NF (nI n).toNatClampNeg) (hh_nc hb1)) ⟨hin, nm_r (congrArg (upd NL (nI n).toNatClampNeg) (hh_nc hl)) (nm_r (nI_1 n) (nm_r (nI_1 i) (hY post hp)))⟩⟩)⟩
/-- the scan: loops 26 and 32 -/
theorem hh_scan {a b c : Nat} (hab : a ≤ b) (hb : b ≤ 65534) (hc : c ≤ 8) (x3 : Int32) {F L : Nat → Int32} (hF : hh_A F) (hL : hh_A L) : ∀ (d i n : Nat) (t : Int32) (NF NL : Nat → Int32), i + d = c → n ≤ 2 * i → (t = 0 ∨ t = 1) → hh_A NF → hh_A NL → hh_G a b c x3 (d + 1) i n t F L NF NL := by
  intro d
  induction d with
  | zero =>
    intro i n t NF NL hi hn ht hNF hNL
    have h : nI c ≤ nI i := nI_le (by omega) (by omega)
    by_cases h8 : n ≤ 8
    · have h8' : nI n ≤ 8 := nI_le (b := 8) h8 (by decide)
      obtain ⟨F', L', hF', hL', hX, hY⟩ := hh_copy h8 t (nI c) ht hNF hNL n 0 F L (by omega) hF hL
      rw [nI_0] at hX hY
      exact ⟨t, (nI n, F', L', NF, NL), hh_okI h8 hF' hL' hNF hNL, fun post hp => br_t h (br_t h8' ⟨n + 1, hX post hp⟩), fun post hp => br_t h (br_t h8' ⟨n + 1, hY post hp⟩)⟩
    · have h8' : ¬ nI n ≤ 8 := nI_ge (a := 8) (by omega) (by omega)
      exact ⟨-2, (nI c, F, L, NF, NL), hh_okI hc hF hL hNF hNL, fun post hp => br_t h (br_f h8' hp), fun post hp => br_t h (br_f h8' hp)⟩
  | succ d ih =>
    intro i n t NF NL hi hn ht hNF hNL
    have h : ¬ nI c ≤ nI i := nI_ge (by omega) (by omega)
    have hi8 : vp_in (nI i) 8 := vp_in_nI (by omega) (by decide)
    have hi16 : vp_in (nI i) 16 := vp_in_nI (by omega) (by decide)
    have hin : vp_in (nI n) 16 := vp_in_nI (by omega) (by decide)
    have hf : hh_C (F (nI i).toNatClampNeg) := hF _
    have hl : hh_C (L (nI i).toNatClampNeg) := hL _
    have IH : ∀ t : Int32, (t = 0 ∨ t = 1) → ∀ (n' : Nat) (NF' NL' : Nat → Int32), n' ≤ 2 * (i + 1) → hh_A NF' → hh_A NL' → hh_G a b c x3 (d + 1) (i + 1) n' t F L NF' NL' :=
      fun t ht n' NF' NL' h1 h2 h3 => ih (i + 1) n' t NF' NL' (by omega) h1 ht h2 h3
    by_cases h1 : L (nI i).toNatClampNeg < nI a
    · obtain ⟨r, u', ok, hX, hY⟩ := hh_65 hc (show i < c by omega) (show n ≤ 2 * i + 1 by omega) hf hl hNF hNL (IH t ht)
      exact ⟨r, u', ok, fun post hp => br_f h ⟨hi8, nm_e ⟨hi8, nm_e (br_t h1 (hX post hp))⟩⟩, fun post hp => br_f h ⟨hi16, nm_e ⟨hi16, nm_e (br_t h1 (hY post hp))⟩⟩⟩
    · by_cases h2 : F (nI i).toNatClampNeg ≤ nI b
      · by_cases h3 : nI a ≤ F (nI i).toNatClampNeg
        · obtain ⟨r, u', ok, hX, hY⟩ := hh_120 hb hc (show i < c by omega) (show n ≤ 2 * i + 1 by omega) hl hNF hNL (IH 1 (Or.inr rfl))
          exact ⟨r, u', ok, fun post hp => br_f h ⟨hi8, nm_e ⟨hi8, nm_e (br_f h1 (br_t h2 (br_t h3 (hX post hp))))⟩⟩, fun post hp => br_f h ⟨hi16, nm_e ⟨hi16, nm_e (br_f h1 (br_t h2 (br_t h3 (hY post hp))))⟩⟩⟩
        · have ha1 : hh_C (nI a - 1) := hh_pred hf (by omega) h3
          obtain ⟨r, u', ok, hX, hY⟩ := hh_120 hb hc (show i < c by omega) (show n + 1 ≤ 2 * i + 1 by omega) hl (hh_upd hNF (nI n).toNatClampNeg hf) (hh_upd hNL (nI n).toNatClampNeg ha1) (IH 1 (Or.inr rfl))
          exact ⟨r, u', ok, fun post hp => br_f h ⟨hi8, nm_e ⟨hi8, nm_e (br_f h1 (br_t h2 (br_f h3 ⟨hin, nm_e ⟨hin, nm_e (nm_r (nI_1 n) (hX post hp))⟩⟩)))⟩⟩, fun post hp => br_f h ⟨hi16, nm_e ⟨hi16, nm_e (br_f h1 (br_t h2 (br_f h3 ⟨hin, nm_r (congrArg (upd NF (nI n).toNatClampNeg) (hh_nc hf)) ⟨hin, nm_r (congrArg (upd NL (nI n).toNatClampNeg) (hh_nc ha1)) (nm_r (nI_1 n) (hY post hp))⟩⟩)))⟩⟩⟩
      · obtain ⟨r, u', ok, hX, hY⟩ := hh_65 hc (show i < c by omega) (show n ≤ 2 * i + 1 by omega) hf hl hNF hNL (IH t ht)
        exact ⟨r, u', ok, fun post hp => br_f h ⟨hi8, nm_e ⟨hi8, nm_e (br_f h1 (br_f h2 (hX post hp)))⟩⟩, fun post hp => br_f h ⟨hi16, nm_e ⟨hi16, nm_e (br_f h1 (br_f h2 (hY post hp)))⟩⟩⟩
end
section
/-! ===== the owed names ===== -/
/-- the two objects hold the same count, at most 8, and the same four arrays, each cell a char's -/
def i_Rel (_ : Nat) (u : SX) (v : SY) : Prop := u = v ∧ hh_ok u
theorem i_up {k : Nat} {u : SX} {v : SY} (h : i_Rel k u v) : i_Rel (k + 4) u v := h
theorem hh_fin {α : Type} {k : Nat} {r : α} {u : SX} (h : hh_ok u) : r = r ∧ i_Rel k u u := And.intro rfl (And.intro rfl h)
theorem hh_el {k : Nat} {P : SX → SY → Prop} (h : ∀ (c : Nat) (F L NF NL : Nat → Int32), c ≤ 8 → hh_A F → hh_A L → hh_A NF → hh_A NL → P (nI c, F, L, NF, NL) (nI c, F, L, NF, NL)) {u : SX} {v : SY} (I : i_Rel k u v) : P u v := by
  obtain ⟨e, ok⟩ := I
  cases e
  obtain ⟨x, F, L, NF, NL⟩ := u
  obtain ⟨⟨c, hc, e⟩, hF, hL, hNF, hNL⟩ := ok
  have e' : x = nI c := e
  cases e'
  exact h c F L NF NL hc hF hL hNF hNL
theorem i_vc0 : wpX_init (fun u => wpY_init (fun v => i_Rel 0 u v)) := by
  have e0 : upd (fun _ => 0) 0 0 = (fun _ => (0 : Int32)) := by
    funext j
    show (if j = 0 then (0 : Int32) else 0) = 0
    exact ite_self 0
  have hz : hh_A (fun _ => 0) := fun _ => ⟨0, by decide, nI_0.symm⟩
  have h5 : hh_C 65535 := ⟨65535, by decide, rfl⟩
  have e5 : vp_nar .char 65535 = 65535 := hh_nar h5
  intro hf ehf hl ehl ls els
  rw [e5] at els
  rw [ehf, ehl, els, e0]
  exact And.intro rfl (hh_okI (c := 1) (by decide) hz (hh_upd hz 0 h5) hz hz)
theorem i_vc_frag {k : Nat} {u : SX} {v : SY} (I : i_Rel k u v) (hk : k + 4 ≤ 2048) (v1 : Int32) (v2 : Int32) (v3 : Int32) : wpX_frag (fun r u' => wpY_frag (fun r' v' => r' = r ∧ i_Rel (k + 4) u' v') v v1 v2 (lw_bz v3)) u v1 v2 (lw_bz v3) := by
  refine hh_el (P := fun u v => wpX_frag (fun r u' => wpY_frag (fun r' v' => r' = r ∧ i_Rel (k + 4) u' v') v v1 v2 (lw_bz v3)) u v1 v2 (lw_bz v3)) ?_ I
  intro c F L NF NL hc hF hL hNF hNL
  have ok : hh_ok (nI c, F, L, NF, NL) := hh_okI hc hF hL hNF hNL
  by_cases h0 : v1 < 0
  · exact br_t h0 (br_t h0 (hh_fin ok))
  · by_cases h1 : 65534 < v2
    · exact br_f h0 (br_t h1 (br_f h0 (br_t h1 (hh_fin ok))))
    · by_cases h2 : v1 ≤ v2
      · have h3 : ¬ v2 < 0 := fun z => h0 (Int32.lt_of_le_of_lt h2 z)
        obtain ⟨a, ha, rfl⟩ := nI_of h0
        obtain ⟨b, hb, rfl⟩ := nI_of h3
        have h2' : a ≤ b := (nI_leI ha hb).mp h2
        have h1' : b ≤ 65534 := by
          rcases Nat.lt_or_ge 65534 b with z | z
          · exact absurd (nI_lt (a := 65534) z hb) h1
          · exact z
        obtain ⟨r, u', ok', hX, hY⟩ := hh_scan h2' h1' hc (lw_bz v3) hF hL c 0 0 0 NF NL (by omega) (by omega) (Or.inl rfl) hNF hNL
        rw [nI_0] at hX hY
        exact br_f h0 (br_f h1 (br_t h2 ⟨c + 1, hX _ (br_f h0 (br_f h1 (br_t h2 ⟨c + 1, hY _ (hh_fin ok')⟩)))⟩))
      · exact br_f h0 (br_f h1 (br_f h2 (br_f h0 (br_f h1 (br_f h2 (hh_fin ok))))))
theorem i_vc_complete {k : Nat} {u : SX} {v : SY} (I : i_Rel k u v) (hk : k + 4 ≤ 2048) : wpX_complete (fun r => wpY_complete (fun r' => r' = r ∧ i_Rel (k + 4) u v) v) u := by
  refine hh_el (P := fun u v => wpX_complete (fun r => wpY_complete (fun r' => r' = r ∧ i_Rel (k + 4) u v) v) u) ?_ I
  intro c F L NF NL hc hF hL hNF hNL
  have ok : hh_ok (nI c, F, L, NF, NL) := hh_okI hc hF hL hNF hNL
  by_cases h : nI c = 0
  · exact br_t h (br_t h (hh_fin ok))
  · exact br_f h (br_f h (hh_fin ok))
theorem i_vc_holes {k : Nat} {u : SX} {v : SY} (I : i_Rel k u v) (hk : k + 4 ≤ 2048) : wpX_holes (fun r => wpY_holes (fun r' => r' = r ∧ i_Rel (k + 4) u v) v) u := by
  refine hh_el (P := fun u v => wpX_holes (fun r => wpY_holes (fun r' => r' = r ∧ i_Rel (k + 4) u v) v) u) ?_ I
  intro c F L NF NL hc hF hL hNF hNL
  have ok : hh_ok (nI c, F, L, NF, NL) := hh_okI hc hF hL hNF hNL
  show nI c = nI c ∧ i_Rel (k + 4) (nI c, F, L, NF, NL) (nI c, F, L, NF, NL)
  exact hh_fin ok
theorem i_vc_holeAt {k : Nat} {u : SX} {v : SY} (I : i_Rel k u v) (hk : k + 4 ≤ 2048) (v1 : Int32) : wpX_holeAt (fun r => wpY_holeAt (fun r' => r' = r ∧ i_Rel (k + 4) u v) v v1) u v1 := by
  refine hh_el (P := fun u v => wpX_holeAt (fun r => wpY_holeAt (fun r' => r' = r ∧ i_Rel (k + 4) u v) v v1) u v1) ?_ I
  intro c F L NF NL hc hF hL hNF hNL
  have ok : hh_ok (nI c, F, L, NF, NL) := hh_okI hc hF hL hNF hNL
  by_cases h0 : v1 < 0
  · exact br_t h0 (br_t h0 (hh_fin ok))
  · by_cases h1 : v1 < nI c
    · have hv : hh_C (F v1.toNatClampNeg) := hF _
      have hw : hh_C (L v1.toNatClampNeg) := hL _
      have h8 : vp_in v1 8 := by
        obtain ⟨j, hj, rfl⟩ := nI_of h0
        rw [nI_ltI hj (by omega)] at h1
        exact vp_in_nI (by omega) (by decide)
      have h16 : vp_in v1 16 := by
        obtain ⟨j, hj, rfl⟩ := nI_of h0
        rw [nI_ltI hj (by omega)] at h1
        exact vp_in_nI (by omega) (by decide)
      exact br_f h0 (br_t h1 ⟨h8, h8, br_f h0 (br_t h1 ⟨h16, h16, And.intro (hh_val hv hw) (And.intro rfl ok)⟩)⟩)
    · exact br_f h0 (br_f h1 (br_f h0 (br_f h1 (hh_fin ok))))
end
