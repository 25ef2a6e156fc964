section
/-! rows of the starting text STRINGBUILDER-LAWS.1, those that this claim takes -/
theorem sv_length {post : Int32 → Prop} {h z : Int32} {a : Nat → Int32} {n : Nat} (hp : post (nI n)) : wpJ0_length_8abf5_6a20e post (0, h, z, a, n) :=
  ⟨by decide, Eq.mpr (congrArg post (sb_shr0 (Int32.ofNat n))) hp⟩
theorem sb_copyOf {post : StJefc9b → Prop} {mc ms : Nat} {a : Nat → Int32} {m q : Nat} (h : m < q) (hq : q ≤ 65536) (hf : sb_Fit a) (hmc : 1 ≤ mc) (hms : q ≤ ms)
    (hp : post (a, m, va_cpy a (fun _ => 0) 0 0 m, q)) : wpJ7_copyOf_9075b_9260e post mc ms (a, m) (nI q) := by
  have ei : (if nI q < Int32.ofNat m then nI q else Int32.ofNat m) = nI m := if_neg (nI_nlt (by omega) (by omega))
  have ec : (nI m).toNatClampNeg = m := nI_clamp (by omega)
  refine br_f (fun z => by have := (nI_eq (by omega) (by omega)).mp (show nI q = nI m from z); omega) ⟨nI_pos (by omega), nm_r (nI_clamp (by omega)) ⟨by omega, hmc, by omega, ?_⟩⟩
  rw [ei, ec, sb_cl0]
  exact ⟨by decide, by decide, nI_pos (by omega), by omega, by omega, fun i _ => hf _, nm_e hp⟩
/-- AbstractStringBuilder.ensureCapacityInternal, of Latin-1 bytes -/
theorem sb_ensure {post : StJ4ec0e → Prop} {mc ms : Nat} {ml z : Int32} {a : Nat → Int32} {m q : Nat} (hm : m ≤ 65536) (hq : q < 2 ^ 28) (hf : sb_Fit a) (hr : sb_Room q m mc ms)
    (hp : ∀ a', sb_Fit a' → (∀ j, j < m → a' j = a j) → post (0, ml, z, a', sb_cap q m)) : wpJ5_ensureCapacityInternal_d00df_b0715 post mc ms (0, ml, z, a, m) (nI q) := by
  have e1 : (nI q - Int32.ofNat m).toInt = (q : Int) - m := pk_sub_toInt (by omega) (by omega)
  refine nm_r (sb_shr0 (Int32.ofNat m)) ?_
  by_cases h : q ≤ m
  · refine br_t (by rw [Int32.le_iff_toInt_le, e1, Int32.toInt_zero]; omega) ?_
    have h9 := hp a hf (fun _ _ => rfl)
    rw [sb_cap, if_pos h] at h9
    exact h9
  · have hr' : 1 ≤ mc ∧ sb_cap q m ≤ ms ∧ sb_cap q m ≤ 65536 := hr.resolve_left h
    have hc : sb_cap q m = m + (if q - m < m + 2 then m + 2 else q - m) := by
      unfold sb_cap
      rw [if_neg h]
      split <;> split <;> omega
    have hg := sb_cap_ge q m
    refine br_f (fun hc => h (by rw [Int32.le_iff_toInt_le, e1, Int32.toInt_zero] at hc; omega)) ?_
    have e2 : Int32.ofNat m + ((2 : Int32) <<< ((0 : Int32) &&& 31)) = nI (m + 2) := by
      rw [sb_shl0]
      exact nI_add m 2
    have e3 : Int32.ofNat m + (if nI (q - m) < nI (m + 2) then nI (m + 2) else nI (q - m)) = nI (sb_cap q m) := by
      rw [hc]
      by_cases h2 : q - m < m + 2
      · rw [if_pos h2, if_pos (nI_lt h2 (by omega))]
        exact nI_add m (m + 2)
      · rw [if_neg h2, if_neg (nI_nlt (by omega) (by omega))]
        exact nI_add m (q - m)
    refine nm_e (nm_r (sb_shl0 (nI q)) (nm_r (show nI q - nI m = nI (q - m) from pk_sub (by omega)) ?_))
    rw [e2]
    refine nm_r e3 (br_f (nI_nle (by omega) (by omega)) (br_f (show ¬ nI 2147483639 < nI (sb_cap q m) from nI_nlt (by omega) (by decide)) ?_))
    refine br_f (fun z9 => by have := (nI_eq (by omega) (by decide)).mp (show nI (sb_cap q m) = nI 2147483647 from z9); omega) ?_
    rw [sb_shr0]
    refine ⟨mc, ms, by omega, by omega, ?_⟩
    rw [sb_shl0]
    exact sb_copyOf (by omega) hr'.2.2 hf hr'.1 hr'.2.1 (hp _ (sb_fitC hf sb_fit0) (fun j hj => sb_cpy0 hj))
/-- StringBuilder.append(char), a Latin-1 letter c -/
theorem sb_appendChar {post : StJ4ec0e → Prop} {mc ms : Nat} {ml : Int32} {t : Nat → Nat} {a : Nat → Int32} {n m c : Nat} (hnm : n ≤ m) (hm : m ≤ 65536) (hL : sb_Lat t n a) (hf : sb_Fit a) (hc : c < 256) (hr : sb_Room (n + 1) m mc ms)
    (hp : ∀ a', sb_Lat (sb_cat t n (fun _ => c)) (n + 1) a' → sb_Fit a' → post (0, ml, nI (n + 1), a', sb_cap (n + 1) m)) : wpJ4_append_cf468_b0715 post mc ms (0, ml, nI n, a, m) (nI c) := by
  have hg := sb_cap_ge (n + 1) m
  have hl := sb_cap_le hm hr
  refine ⟨mc, ms, by omega, by omega, mc, ms, by omega, by omega, ?_⟩
  rw [nI_1]
  refine sb_ensure hm (by omega) hf hr (fun a' hf' hk => ?_)
  refine br_t rfl (br_f (by decide) ?_)
  refine br_f (show ¬ nI 255 < nI c from nI_nlt (by omega) (by decide)) (br_f (by decide) ?_)
  refine nm_r (nI_1 n) ⟨vp_in_nI (by omega) (by omega), nm_r (e' := upd a' n (sb_b c)) (by rw [nI_clamp (by omega), pk_vb]; rfl) ?_⟩
  refine hp _ (sb_latPut hL (fun j hj => ?_) (fun i hi => ?_)) (sb_fitU hf' (sb_fitB c))
  · rw [pk_un (by omega)]
    exact hk j (by omega)
  · obtain rfl : i = 0 := by omega
    exact ⟨hc, pk_us⟩
theorem sb_copyRange {post : StJefc9b → Prop} {mc ms : Nat} {a : Nat → Int32} {n m : Nat} (hnm : n ≤ m) (hm : m ≤ 65536) (hf : sb_Fit a) (hmc : 1 ≤ mc) (hms : n ≤ ms)
    (hp : ∀ a', sb_Fit a' → (∀ j, j < n → a' j = a j) → post (a, m, a', n)) : wpJ7_copyOfRange_39247_f5dda post mc ms (a, m) 0 (nI n) := by
  refine br_t rfl (pk_eq n m (fun e => ?_) (fun e => ?_))
  · subst e
    exact ⟨fun i _ => hf i, hmc, by omega, hp a hf (fun _ _ => rfl)⟩
  · have ei : (if nI n < (Int32.ofNat m - 0) then nI n else (Int32.ofNat m - 0)) = nI n := by
      rw [show Int32.ofNat m - 0 = nI m from pk_sub (a := m) (b := 0) (by omega)]
      exact if_pos (nI_lt (by omega) (by omega))
    refine ⟨mc, ms, by omega, by omega, br_t (nI_pos' (by omega)) (nm_r (e' := nI n) (pk_sub (a := n) (b := 0) (by omega)) ⟨nI_pos (by omega), nm_r (nI_clamp (by omega)) ⟨by omega, hmc, by omega, ?_⟩⟩)⟩
    rw [ei, nI_clamp (n := n) (by omega), sb_cl0]
    exact ⟨by decide, by decide, nI_pos (by omega), by omega, by omega, fun i _ => hf _, nm_e (hp _ (sb_fitC hf sb_fit0) (fun j hj => sb_cpy0 hj))⟩
/-- StringBuilder.toString -/
theorem sb_toString {post : StJ9c5ae → Prop} {mc ms : Nat} {ml : Int32} {t : Nat → Nat} {a : Nat → Int32} {n m : Nat} (hnm : n ≤ m) (hm : m ≤ 65536) (hL : sb_Lat t n a) (hf : sb_Fit a) (hmc : 2 ≤ mc) (hms : n + 4 ≤ ms)
    (hp : ∀ a', sb_Lat t n a' → sb_Fit a' → post (0, ml, nI n, a, m, 0, 0, 0, a', n)) : wpJ4_toString_0e30d_76c3d post mc ms (0, ml, nI n, a, m) := by
  refine ⟨by omega, by omega, mc - 1, ms - 4, by omega, by omega, mc - 1, ms - 4, by omega, by omega, br_t rfl (br_f (by decide) ⟨mc - 1, ms - 4, by omega, by omega, ?_⟩)⟩
  exact sb_copyRange hnm hm hf (by omega) (by omega) (fun a' hf' hk => hp a' (sb_latKeep hL hk) hf')
theorem sv_check {post : Unit → Prop} {i n : Nat} (hi : i < n) (hn : n < 2 ^ 31) (hp : post ()) : wpJ0_checkIndex_df160_48e5c post () (nI i) (nI n) :=
  ⟨br_f (nI_pos (by omega)) (br_t (nI_lt hi hn) hp), br_f (nI_pos (by omega)) (br_t (nI_lt hi hn) hp)⟩
/-- String.charAt of a Latin-1 text -/
theorem sv_charAt {post : Int32 → Prop} {h z : Int32} {t : Nat → Nat} {a : Nat → Int32} {n i : Nat} (hn : n ≤ 65536) (hL : sb_Lat t n a) (hi : i < n) (hp : post (nI (t i))) : wpJ0_charAt_5068e_f8cf6 post (0, h, z, a, n) (nI i) := by
  obtain ⟨h1, h2⟩ := hL i hi
  obtain ⟨b1, b2, -⟩ := sb_byte _ h1
  have hc := (pk_charN (q := t i) (by omega)).1
  refine br_t rfl (br_f (by decide) ?_)
  rw [wpJ1_charAt_3b067_49ada]
  refine sv_check hi (by omega) ⟨vp_in_nI hi (by omega), ?_⟩
  rw [nI_clamp (by omega), h2, b1, b2]
  exact ⟨hc, hc, hp⟩
theorem sv_compress {P : Int32 → StJbedf7 → Prop} {t : Nat → Nat} {b : Nat → Int32} {n : Nat} (hn : n ≤ 65536) (ht : ∀ j, j < n → t j < 256 ∧ b j = nI (t j)) (hP : ∀ a', sb_Lat t n a' → sb_Fit a' → P (nI n) (b, n, a', n)) :
    ∀ (d k : Nat) (a : Nat → Int32), k + d = n → sb_Lat t k a → sb_Fit a → wJ2_compress_fe38e_1fd7f_3 P (nI n) n n (d + 1) (nI k) (nI k) (nI k) b a := by
  intro d
  induction d with
  | zero =>
    intro k a hk hL hf
    rw [wJ2_compress_fe38e_1fd7f_3]
    refine br_t ((nI_leI (by omega) (by omega)).mpr (by omega)) (hP a ?_ hf)
    rw [← show k = n by omega]
    exact hL
  | succ d ih =>
    intro k a hk hL hf
    obtain ⟨b1, b2⟩ := ht k (by omega)
    obtain ⟨-, -, b3⟩ := sb_byte _ b1
    rw [wJ2_compress_fe38e_1fd7f_3]
    refine br_f (nI_ge (by omega) (by omega)) ⟨vp_in_nI (by omega) (by omega), nm_r (e' := nI (t k)) (by rw [nI_clamp (by omega), b2]) (br_t b3 ⟨vp_in_nI (by omega) (by omega), ?_⟩)⟩
    refine nm_r (e' := upd a k (sb_b (t k))) (by rw [nI_clamp (by omega), pk_vb]; rfl) (nm_r (nI_1 k) (nm_r (nI_1 k) (nm_r (nI_1 k) ?_)))
    refine ih (k + 1) _ (by omega) (fun j hj => ?_) (sb_fitU hf (sb_fitB _))
    by_cases e : j = k
    · subst e
      exact ⟨b1, pk_us⟩
    · rw [pk_un e]
      exact hL j (by omega)
/-- String.equals of two Strings with the same bytes -/
theorem sv_equals {post : Int32 → Prop} {h z h' z' : Int32} {a a' : Nat → Int32} {n : Nat} (hn : n ≤ 65536) (he : ∀ j, j < n → a j = a' j) (hp : post 1) : wpJ0_equals_9ea2d_d3b40 post (0, h, z, a, n, 0, h', z', a', n) := by
  have L : ∀ (P : Int32 → Prop), P 1 → ∀ (d k : Nat), k + d = n → wJ1_equals_b5fdf_9f0d2_9 P a n a' n (d + 1) (nI k) := by
    intro P h1 d
    induction d with
    | zero =>
      intro k hk
      rw [wJ1_equals_b5fdf_9f0d2_9]
      exact br_t ((nI_leI (by omega) (by omega)).mpr (by omega)) h1
    | succ d ih =>
      intro k hk
      rw [wJ1_equals_b5fdf_9f0d2_9]
      refine br_f (nI_ge (by omega) (by omega)) ⟨vp_in_nI (by omega) (by omega), vp_in_nI (by omega) (by omega), br_t ?_ (nm_r (nI_1 k) (ih (k + 1) (by omega)))⟩
      rw [nI_clamp (by omega)]
      exact he k (by omega)
  exact br_t rfl (br_t rfl ⟨n + 1, L _ (br_f (by decide) hp) n 0 (by omega)⟩)
end
section
/-- the chars b hold the n Latin-1 letters t 0 .. t (n - 1) -/
def sg_Chr (t : Nat → Nat) (n : Nat) (b : Nat → Int32) : Prop := ∀ j, j < n → t j < 256 ∧ b j = nI (t j)
/-- the text t of n letters, backwards -/
def sg_rev (t : Nat → Nat) (n : Nat) : Nat → Nat := fun q => t (n - 1 - q)
theorem sg_vc {q : Nat} (h : q < 65536) : vp_nar .char (nI q) = nI q := by
  unfold vp_nar
  rw [(pk_charN h).1]
theorem sg_chr0 {t : Nat → Nat} {b : Nat → Int32} : sg_Chr t 0 b := fun j hj => absurd hj (Nat.not_lt_zero j)
theorem sg_put {t : Nat → Nat} {k : Nat} {b : Nat → Int32} (h : sg_Chr t k b) (ht : t k < 256) : sg_Chr t (k + 1) (upd b k (nI (t k))) := by
  intro j hj
  by_cases e : j = k
  · subst e
    exact ⟨ht, pk_us⟩
  · rw [pk_un e]
    exact h j (by omega)
theorem sg_cat1 {t : Nat → Nat} {k : Nat} {a : Nat → Int32} (h : sb_Lat (sb_cat t k (fun _ => t k)) (k + 1) a) : sb_Lat t (k + 1) a := by
  intro j hj
  have h9 := h j hj
  by_cases e : j < k
  · rw [sb_cat_lo e] at h9
    exact h9
  · obtain rfl : j = k := by omega
    rw [show sb_cat t j (fun _ => t j) j = t j from sb_cat_hi (t := t) (n := j) (s := fun _ => t j) (j := 0)] at h9
    exact h9
/-- new String(char[]) of n Latin-1 letters, n not 0 -/
theorem sg_new {post : (StJ0f59a ⊕ StJ64b40) → Prop} {mc ms : Nat} {c h z : Int32} {t : Nat → Nat} {b : Nat → Int32} {n : Nat} (h0 : 0 < n) (hn : n ≤ 65536) (ht : sg_Chr t n b) (hmc : 1 ≤ mc) (hms : n ≤ ms)
    (hp : ∀ a', sb_Lat t n a' → sb_Fit a' → post (.inl (0, h, z, a', n, b, n))) : wpJ0_init_905df_fc072 post mc ms (c, h, z, b, n) := by
  refine ⟨mc, ms, by omega, by omega, br_f (nI_ne0 h0 (by omega)) ⟨mc, ms, by omega, by omega, nI_pos (by omega), nm_r (nI_clamp (by omega)) ⟨by omega, hmc, by omega, n + 1, ?_⟩⟩⟩
  refine sv_compress hn ht (fun a' hL hf => ?_) n 0 _ (by omega) (fun j hj => absurd hj (Nat.not_lt_zero j)) sb_fit0
  refine br_t rfl ⟨pk_nb _, ?_⟩
  have e1 : (((Int32.ofNat n - Int32.ofNat n).toUInt32 >>> ((31 : Int32).toUInt32 &&& Int32.toUInt32 31)).toInt32).toInt8.toInt32 = 0 := by
    rw [Int32.sub_self]
    decide
  rw [e1]
  exact ⟨by decide, by decide, hp a' hL hf⟩
/-- new String(char[]) of no letters: the bytes of the constant "" -/
theorem sg_new0 {post : (StJ0f59a ⊕ StJ64b40) → Prop} {mc ms : Nat} {c h z : Int32} {b : Nat → Int32} (hp : post (.inr (0, h, z, b, 0))) : wpJ0_init_905df_fc072 post mc ms (c, h, z, b, 0) :=
  ⟨mc, ms, by omega, by omega, br_t rfl hp⟩
/-- StringLatin1.inflate into chars -/
theorem sg_inflate {P : StJ0dc2b → Prop} {t : Nat → Nat} {a : Nat → Int32} {n : Nat} (hn : n ≤ 65536) (hL : sb_Lat t n a) (hP : ∀ b, sg_Chr t n b → P (a, n, b, n)) :
    ∀ (d k : Nat) (b : Nat → Int32), k + d = n → sg_Chr t k b → wJ1_inflate_03870_7f7be_3 P (nI n) n n (d + 1) (nI k) (nI k) (nI k) a b := by
  intro d
  induction d with
  | zero =>
    intro k b hk hb
    obtain rfl : k = n := by omega
    rw [wJ1_inflate_03870_7f7be_3]
    exact br_t ((nI_leI (by omega) (by omega)).mpr (by omega)) (hP b hb)
  | succ d ih =>
    intro k b hk hb
    obtain ⟨h1, h2⟩ := hL k (by omega)
    obtain ⟨b1, b2, -⟩ := sb_byte _ h1
    rw [wJ1_inflate_03870_7f7be_3]
    refine br_f (nI_ge (by omega) (by omega)) (nm_r (nI_1 k) (nm_r (nI_1 k) ⟨vp_in_nI (by omega) (by omega), vp_in_nI (by omega) (by omega), ?_⟩))
    exact nm_r (e' := upd b k (nI (t k))) (by rw [nI_clamp (by omega), h2, b1, b2, sg_vc (by omega)]) (nm_r (nI_1 k) (ih (k + 1) _ (by omega) (sg_put hb h1)))
/-- String.toCharArray of a Latin-1 text -/
theorem sg_toChars {post : StJ0f59a → Prop} {mc ms : Nat} {h z : Int32} {t : Nat → Nat} {a : Nat → Int32} {n : Nat} (hn : n ≤ 65536) (hL : sb_Lat t n a) (hmc : 1 ≤ mc) (hms : n ≤ ms)
    (hp : ∀ b, sg_Chr t n b → post (0, h, z, a, n, b, n)) : wpJ0_toCharArray_70df3_e59ac post mc ms (0, h, z, a, n) := by
  refine br_t rfl (br_f (by decide) ⟨mc, ms, by omega, by omega, nI_pos (by omega), nm_r (nI_clamp (by omega)) ⟨by omega, hmc, by omega, n + 1, ?_⟩⟩)
  exact sg_inflate hn hL (fun b hb => hp b hb) n 0 _ (by omega) sg_chr0
/-- the swapping loop of SignTexts.turned: places i and j = n - 1 - i -/
theorem sg_swap {post : (St2 ⊕ St3) → Prop} {mc ms kc ks n : Nat} {h z : Int32} {t : Nat → Nat} {a : Nat → Int32} (h0 : 0 < n) (hn : n ≤ 65536) (hmc : kc + 2 ≤ mc) (hms : ks + 4 + n ≤ ms) (ht : ∀ q, q < n → t q < 256)
    (hp : ∀ a', sb_Lat (sg_rev t n) n a' → post (.inl (0, h, z, a, n, 0, 0, 0, a', n))) :
    ∀ (f i j : Nat) (b : Nat → Int32), i + j + 1 = n → j < f → (∀ q, q < n → b q = nI (if q < i ∨ j < q then t (n - 1 - q) else t q)) → wX0_turned_12 post mc ms kc ks 0 h z n n f (nI i) (nI j) a b := by
  intro f
  induction f with
  | zero =>
    intro i j b hij hf
    omega
  | succ f ih =>
    intro i j b hij hf hb
    rw [wX0_turned_12]
    refine pk_le j i (fun e => ?_) (fun e => ?_)
    · refine ⟨by omega, by omega, 1, n, by omega, by omega, ?_⟩
      refine sg_new (t := sg_rev t n) h0 hn (fun q hq => ⟨ht _ (by omega), ?_⟩) (by omega) (by omega) (fun a' hL _ => hp a' hL)
      rw [hb q hq]
      by_cases c : q < i ∨ j < q
      · rw [if_pos c]
        rfl
      · rw [if_neg c, sg_rev, show n - 1 - q = q by omega]
    · obtain ⟨p, rfl⟩ : ∃ p, j = p + 1 := ⟨j - 1, by omega⟩
      have hi := hb i (by omega)
      rw [if_neg (by omega)] at hi
      have hj := hb (p + 1) (by omega)
      rw [if_neg (by omega)] at hj
      have ti := ht i (by omega)
      have tj := ht (p + 1) (by omega)
      have ci : (nI i).toNatClampNeg = i := nI_clamp (by omega)
      have cj : (nI (p + 1)).toNatClampNeg = p + 1 := nI_clamp (by omega)
      refine ⟨vp_in_nI (by omega) (by omega), nm_r (e' := nI (t i)) (by rw [ci, hi]) ⟨vp_in_nI (by omega) (by omega), vp_in_nI (by omega) (by omega), ?_⟩⟩
      refine nm_r (e' := upd b i (nI (t (p + 1)))) (by rw [ci, cj, hj, sg_vc (by omega)]) ⟨vp_in_nI (by omega) (by omega), ?_⟩
      refine nm_r (e' := upd (upd b i (nI (t (p + 1)))) (p + 1) (nI (t i))) (by rw [cj, sg_vc (by omega)]) (nm_r (nI_1 i) (nm_r (pk_m1 p) ?_))
      refine ih (i + 1) p _ (by omega) (by omega) (fun q hq => ?_)
      by_cases e1 : q = p + 1
      · rw [e1, pk_us, if_pos (by omega), show n - 1 - (p + 1) = i by omega]
      · rw [pk_un e1]
        by_cases e2 : q = i
        · rw [e2, pk_us, if_pos (by omega), show n - 1 - i = p + 1 by omega]
        · rw [pk_un e2, hb q hq]
          by_cases c : q < i ∨ p + 1 < q
          · rw [if_pos c, if_pos (by omega)]
          · rw [if_neg c, if_neg (by omega)]
/-- SignTexts.turned of a Latin-1 text, not empty -/
theorem sg_turned {post : (St2 ⊕ St3) → Prop} {mc ms n : Nat} {h z : Int32} {t : Nat → Nat} {a : Nat → Int32} (h0 : 0 < n) (hn : n ≤ 65536) (hL : sb_Lat t n a) (hmc : 3 ≤ mc) (hms : 2 * n + 4 ≤ ms)
    (hp : ∀ a', sb_Lat (sg_rev t n) n a' → post (.inl (0, h, z, a, n, 0, 0, 0, a', n))) : wpX0_turned post mc ms (0, h, z, a, n) := by
  refine ⟨1, n, by omega, by omega, sg_toChars hn hL (by omega) (by omega) (fun b hb => nm_r (e' := nI (n - 1)) (pk_sub (a := n) (b := 1) h0) ⟨n, ?_⟩)⟩
  refine sg_swap (t := t) h0 hn (by omega) (by omega) (fun q hq => (hL q hq).1) hp n 0 (n - 1) b (by omega) (by omega) (fun q hq => ?_)
  rw [if_neg (by omega)]
  exact (hb q hq).2
/-- the loop of SignTextsPlain.textOf -/
theorem sg_text {post : St5 → Prop} {mc ms kc ks n : Nat} {t : Nat → Nat} {b : Nat → Int32} (hn : n ≤ 16) (hmc : kc + 2 ≤ mc) (hms : ks + 4 + n ≤ ms) (hb : sg_Chr t n b)
    (hp : ∀ a', sb_Lat t n a' → post (b, n, 0, 0, 0, a', n)) :
    ∀ (d k : Nat) (ml : Int32) (a : Nat → Int32), k + d = n → sb_Lat t k a → sb_Fit a → wX1_textOf_10 post mc ms (d + 1) (nI k) kc ks b n 0 ml (nI k) a 16 := by
  intro d
  induction d with
  | zero =>
    intro k ml a hk hL hf
    obtain rfl : k = n := by omega
    rw [wX1_textOf_10]
    exact br_t ((nI_leI (by omega) (by omega)).mpr (by omega)) ⟨2, k + 4, by omega, by omega, sb_toString hn (by omega) hL hf (by omega) (by omega) (fun a' hL' _ => hp a' hL')⟩
  | succ d ih =>
    intro k ml a hk hL hf
    obtain ⟨h1, h2⟩ := hb k (by omega)
    rw [wX1_textOf_10]
    refine br_f (nI_ge (by omega) (by omega)) ⟨vp_in_nI (by omega) (by omega), 0, 0, by omega, by omega, ?_⟩
    rw [nI_clamp (by omega), h2]
    refine sb_appendChar (by omega) (by omega) hL hf h1 (Or.inl (by omega)) (fun a' hL' hf' => nm_r (nI_1 k) ?_)
    rw [show sb_cap (k + 1) 16 = 16 from if_pos (by omega)]
    exact ih (k + 1) ml a' (by omega) (sg_cat1 hL') hf'
/-- SignTextsPlain.textOf of at most 16 Latin-1 letters -/
theorem sg_textOf {post : St5 → Prop} {mc ms n : Nat} {t : Nat → Nat} {b : Nat → Int32} (hn : n ≤ 16) (hmc : 4 ≤ mc) (hms : n + 24 ≤ ms) (hb : sg_Chr t n b)
    (hp : ∀ a', sb_Lat t n a' → post (b, n, 0, 0, 0, a', n)) : wpX1_textOf post mc ms (b, n) := by
  refine ⟨by omega, by omega, 1, 16, by omega, by omega, 1, 16, by omega, by omega, by decide, nm_r (e' := 16) (by decide) ⟨by decide, by decide, by decide, n + 1, ?_⟩⟩
  exact sg_text hn (by omega) (by omega) hb hp n 0 _ _ (by omega) (fun j hj => absurd hj (Nat.not_lt_zero j)) sb_fit0
/-- the loop of SignTextsPlain.turned -/
theorem sg_mirror {post : St2 → Prop} {mc ms kc ks n : Nat} {h z : Int32} {t : Nat → Nat} {a : Nat → Int32} (hn : n ≤ 16) (hmc : kc + 4 ≤ mc) (hms : ks + n + 24 ≤ ms) (hL : sb_Lat t n a)
    (hp : ∀ a', sb_Lat (sg_rev t n) n a' → post (0, h, z, a, n, 0, 0, 0, a', n)) :
    ∀ (d k : Nat) (b : Nat → Int32), k + d = n → (∀ q, q < n → n ≤ q + k → b q = nI (t (n - 1 - q))) → wX1_turned_9 post mc ms kc ks 0 h z n n (d + 1) (nI k) a b := by
  intro d
  induction d with
  | zero =>
    intro k b hk hb
    rw [wX1_turned_9]
    refine sv_length (br_t ((nI_leI (by omega) (by omega)).mpr (by omega)) ⟨4, n + 24, by omega, by omega, ?_⟩)
    exact sg_textOf (t := sg_rev t n) hn (by omega) (by omega) (fun q hq => ⟨(hL _ (by omega)).1, hb q hq (by omega)⟩) (fun a' hL' => hp a' hL')
  | succ d ih =>
    intro k b hk hb
    have tk := (hL k (by omega)).1
    have e : nI n - 1 - nI k = nI (n - 1 - k) := by
      rw [show nI n - 1 = nI (n - 1) from pk_sub (a := n) (b := 1) (by omega), pk_sub (by omega)]
    rw [wX1_turned_9]
    refine sv_length (br_f (nI_ge (by omega) (by omega)) (sv_length (sv_charAt (by omega) hL (by omega) ?_)))
    refine ⟨by rw [e]; exact vp_in_nI (by omega) (by omega), nm_r (e' := upd b (n - 1 - k) (nI (t k))) (by rw [e, nI_clamp (by omega), sg_vc (by omega)]) (nm_r (nI_1 k) ?_)⟩
    refine ih (k + 1) _ (by omega) (fun q hq hq2 => ?_)
    by_cases e1 : q = n - 1 - k
    · rw [e1, pk_us, show n - 1 - (n - 1 - k) = k by omega]
    · rw [pk_un e1]
      exact hb q hq (by omega)
/-- SignTextsPlain.turned of at most 16 Latin-1 letters -/
theorem sg_plain {post : St2 → Prop} {mc ms n : Nat} {h z : Int32} {t : Nat → Nat} {a : Nat → Int32} (hn : n ≤ 16) (hmc : 5 ≤ mc) (hms : 2 * n + 24 ≤ ms) (hL : sb_Lat t n a)
    (hp : ∀ a', sb_Lat (sg_rev t n) n a' → post (0, h, z, a, n, 0, 0, 0, a', n)) : wpX1_turned post mc ms (0, h, z, a, n) := by
  unfold wpX1_turned
  refine sv_length ⟨nI_pos (by omega), nm_r (nI_clamp (by omega)) ⟨by omega, by omega, by omega, n + 1, ?_⟩⟩
  exact sg_mirror hn (by omega) (by omega) hL hp n 0 _ (by omega) (fun q hq hq2 => by omega)
/-- SignTexts.turned of "" -/
theorem sg_turned0 {post : (St7 ⊕ St8) → Prop} {mc ms : Nat} {h z : Int32} (hmc : 2 ≤ mc) (hms : 4 ≤ ms) (hp : post (.inr (0, h, z, 0, 0, 0))) : wpX0_turned_2 post mc ms (0, h, z) := by
  refine ⟨1, 0, by omega, by omega, br_t rfl (br_f (by decide) ⟨1, 0, by omega, by omega, by decide, by decide, nm_r (e' := 0) (by decide) ⟨by decide, by decide, by decide, 1, ?_⟩⟩)⟩
  refine br_t (by decide) (nm_r (e' := -1) (by decide) ⟨1, ?_⟩)
  refine br_t (by decide) ⟨by omega, by omega, 0, 0, by omega, by omega, ?_⟩
  exact sg_new0 hp
/-- SignTextsPlain.turned of "" -/
theorem sg_plain0 {post : St7 → Prop} {mc ms : Nat} {h z : Int32} (hmc : 5 ≤ mc) (hms : 24 ≤ ms) (hp : ∀ a', post (0, h, z, 0, 0, 0, a', 0)) : wpX1_turned_2 post mc ms (0, h, z) := by
  refine ⟨by decide, by decide, nm_r (e' := 0) (by decide) ⟨by decide, by omega, by omega, 1, ?_⟩⟩
  refine ⟨by decide, br_t (by decide) ⟨4, 24, by omega, by omega, ?_⟩⟩
  exact sg_textOf (t := fun _ => 0) (by decide) (by omega) (by omega) sg_chr0 (fun a' _ => hp a')
/-- String.equals of "" and a text of no bytes -/
theorem sg_equals0 {post : Int32 → Prop} {h z h' z' : Int32} {a' : Nat → Int32} (hp : post 1) : wpJ0_equals_9ea2d_86617 post (0, h, z, 0, h', z', a', 0) :=
  br_t rfl ⟨by decide, br_t rfl ⟨1, by decide, br_t (by decide) (br_f (by decide) hp)⟩⟩
end
section
theorem sg_50 {post : Int32 → St0 → Prop} {mc ms kc ks n k : Nat} {J : Int32 → (Nat → Int32) → Prop} {x0 x1 x3 z0 : Int32} {b : Nat → Int32} (hk : k < n) (hn : n ≤ 8) (hJ : ∀ c, c < 256 → J (nI (k + 1)) (upd b k (nI c))) :
    wL_lawOf_50 post mc ms J x0 x1 x3 (nI k) z0 kc ks b n := by
  obtain ⟨c, hc, ec⟩ := pk_andE z0 8 (m := 255) (by decide)
  exact ⟨vp_in_nI hk (by omega), nm_r (e' := upd b k (nI c)) (by rw [nI_clamp (by omega), ec, (sb_byte c hc).2.1]) (nm_r (nI_1 k) (hJ c hc))⟩
theorem sg_law {P : Int32 → St0 → Prop} (hP : P 1 ()) {mc ms kc ks n : Nat} {x0 x1 : Int32} (hn : n ≤ 8) (hmc : kc + 10 ≤ mc) (hms : ks + 80 ≤ ms) :
    ∀ (d k : Nat) (t : Nat → Nat) (b : Nat → Int32), k + d = n → sg_Chr t k b → wL_lawOf_19 P mc ms x0 x1 (nI n) kc ks n (d + 1) (nI k) b := by
  intro d
  induction d with
  | zero =>
    intro k t b hk hb
    obtain rfl : k = n := by omega
    rw [wL_lawOf_19]
    refine br_t ((nI_leI (by omega) (by omega)).mpr (by omega)) ⟨by omega, by omega, 1, k, by omega, by omega, ?_⟩
    by_cases h0 : k = 0
    · subst h0
      exact sg_new0 ⟨2, 4, by omega, by omega, sg_turned0 (by omega) (by omega) ⟨5, 24, by omega, by omega, sg_plain0 (by omega) (by omega) (fun a' => sg_equals0 ⟨by decide, hP⟩)⟩⟩
    · refine sg_new (by omega) (by omega) hb (by omega) (by omega) (fun a1 hL1 _ => ⟨3, 2 * k + 4, by omega, by omega, ?_⟩)
      refine sg_turned (by omega) (by omega) hL1 (by omega) (by omega) (fun a2 hL2 => ⟨5, 2 * k + 24, by omega, by omega, ?_⟩)
      refine sg_plain (by omega) (by omega) (by omega) hL1 (fun a3 hL3 => ?_)
      exact sv_equals (by omega) (fun j hj => (hL2 j hj).2.trans (hL3 j hj).2.symm) ⟨by decide, hP⟩
  | succ d ih =>
    intro k t b hk hb
    rw [wL_lawOf_19]
    have hJ : ∀ c, c < 256 → wL_lawOf_19 P mc ms x0 x1 (nI n) kc ks n (d + 1) (nI (k + 1)) (upd b k (nI c)) := by
      intro c hc
      refine ih (k + 1) (sb_cat t k (fun _ => c)) _ (by omega) (fun j hj => ?_)
      by_cases e : j = k
      · subst e
        rw [show sb_cat t j (fun _ => c) j = c from sb_cat_hi (t := t) (n := j) (s := fun _ => c) (j := 0)]
        exact ⟨hc, pk_us⟩
      · rw [pk_un e, sb_cat_lo (by omega)]
        exact hb j (by omega)
    exact br_f (nI_ge (by omega) (by omega)) (br_c (fun _ => sg_50 (by omega) hn hJ) (fun _ => sg_50 (by omega) hn hJ))
theorem sg_lawOf {P : Int32 → St0 → Prop} (hP : P 1 ()) (a b c : Int32) : wpL_lawOf P 19 296 () a b c := by
  obtain ⟨i, hi, ei⟩ := pk_andE c 3 (m := 7) (by decide)
  obtain ⟨j, hj, ej⟩ := pk_andE ((c.toUInt32 >>> ((3 : Int32).toUInt32 &&& Int32.toUInt32 31)).toInt32) 1 (m := 1) (by decide)
  refine nm_r (e' := nI (i + j)) (by rw [ei, ej, nI_add]) ⟨nI_pos (by omega), nm_r (nI_clamp (by omega)) ⟨by omega, by decide, by omega, i + j + 1, ?_⟩⟩
  exact sg_law hP (by omega) (by omega) (by omega) (i + j) 0 (fun _ => 0) _ (by omega) sg_chr0
theorem sg_cell {P : Int32 → Prop} {L : Nat} {xs : Nat → Int32} (hL : L ≤ 3) (i : Nat) (hi : i < 3) (h : ∀ r, P r) : wpL_cellAt P L xs () (nI i) :=
  pk_le L i (fun _ => h _) (fun e => ⟨vp_in_nI e (by omega), h _⟩)
theorem i_vc (xs : Nat → Int32) (L : Nat) (hL : L ≤ 3) : wpL_law (fun r => r = 1) L xs :=
  sg_cell hL 0 (by decide) (fun a => sg_cell hL 1 (by decide) (fun b => sg_cell hL 2 (by decide) (fun c => ⟨19, 296, by decide, by decide, sg_lawOf rfl a b c⟩)))
end
