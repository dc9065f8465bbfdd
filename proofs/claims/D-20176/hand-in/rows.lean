section
theorem sv_length {post : Int32 → Prop} {h z : Int32} {a : Nat → Int32} {n : Nat} (hp : post (nI n)) : wpJ0_length_8abf5_6a20e post (0, h, z, a, n) :=
  ⟨by decide, Eq.mpr (congrArg post (sb_shr0 (Int32.ofNat n))) hp⟩
theorem sb_copyOf {post : StJefc9b → Prop} {mc ms : Nat} {a : Nat → Int32} {m q : Nat} (h : m < q) (hq : q ≤ 65536) (hf : sb_Fit a) (hmc : 1 ≤ mc) (hms : q ≤ ms)
    (hp : post (a, m, va_cpy a (fun _ => 0) 0 0 m, q)) : wpJ7_copyOf_9075b_9260e post mc ms (a, m) (nI q) := by
  have ei : (if nI q < Int32.ofNat m then nI q else Int32.ofNat m) = nI m := if_neg (nI_nlt (by omega) (by omega))
  have ec : (nI m).toNatClampNeg = m := nI_clamp (by omega)
  refine br_f (fun z => by have := (nI_eq (by omega) (by omega)).mp (show nI q = nI m from z); omega) ⟨nI_pos (by omega), nm_r (nI_clamp (by omega)) ⟨by omega, hmc, by omega, ?_⟩⟩
  rw [ei, ec, sb_cl0]
  exact ⟨by decide, by decide, nI_pos (by omega), by omega, by omega, fun i _ => hf _, nm_e hp⟩
/-- AbstractStringBuilder.ensureCapacityInternal, of Latin-1 bytes -/
theorem sb_ensure {post : StJ4ec0e → Prop} {mc ms : Nat} {ml z : Int32} {a : Nat → Int32} {m q : Nat} (hm : m ≤ 65536) (hq : q < 2 ^ 28) (hf : sb_Fit a) (hr : sb_Room q m mc ms)
    (hp : ∀ a', sb_Fit a' → (∀ j, j < m → a' j = a j) → post (0, ml, z, a', sb_cap q m)) : wpJ5_ensureCapacityInternal_d00df_b0715 post mc ms (0, ml, z, a, m) (nI q) := by
  have e1 : (nI q - Int32.ofNat m).toInt = (q : Int) - m := pk_sub_toInt (by omega) (by omega)
  refine nm_r (sb_shr0 (Int32.ofNat m)) ?_
  by_cases h : q ≤ m
  · refine br_t (by rw [Int32.le_iff_toInt_le, e1, Int32.toInt_zero]; omega) ?_
    have h9 := hp a hf (fun _ _ => rfl)
    rw [sb_cap, if_pos h] at h9
    exact h9
  · have hr' : 1 ≤ mc ∧ sb_cap q m ≤ ms ∧ sb_cap q m ≤ 65536 := hr.resolve_left h
    have hc : sb_cap q m = m + (if q - m < m + 2 then m + 2 else q - m) := by
      unfold sb_cap
      rw [if_neg h]
      split <;> split <;> omega
    have hg := sb_cap_ge q m
    refine br_f (fun hc => h (by rw [Int32.le_iff_toInt_le, e1, Int32.toInt_zero] at hc; omega)) ?_
    have e2 : Int32.ofNat m + ((2 : Int32) <<< ((0 : Int32) &&& 31)) = nI (m + 2) := by
      rw [sb_shl0]
      exact nI_add m 2
    have e3 : Int32.ofNat m + (if nI (q - m) < nI (m + 2) then nI (m + 2) else nI (q - m)) = nI (sb_cap q m) := by
      rw [hc]
      by_cases h2 : q - m < m + 2
      · rw [if_pos h2, if_pos (nI_lt h2 (by omega))]
        exact nI_add m (m + 2)
      · rw [if_neg h2, if_neg (nI_nlt (by omega) (by omega))]
        exact nI_add m (q - m)
    refine nm_e (nm_r (sb_shl0 (nI q)) (nm_r (show nI q - nI m = nI (q - m) from pk_sub (by omega)) ?_))
    rw [e2]
    refine nm_r e3 (br_f (nI_nle (by omega) (by omega)) (br_f (show ¬ nI 2147483639 < nI (sb_cap q m) from nI_nlt (by omega) (by decide)) ?_))
    refine br_f (fun z9 => by have := (nI_eq (by omega) (by decide)).mp (show nI (sb_cap q m) = nI 2147483647 from z9); omega) ?_
    rw [sb_shr0]
    refine ⟨mc, ms, by omega, by omega, ?_⟩
    rw [sb_shl0]
    exact sb_copyOf (by omega) hr'.2.2 hf hr'.1 hr'.2.1 (hp _ (sb_fitC hf sb_fit0) (fun j hj => sb_cpy0 hj))
/-- StringBuilder.append(char), a Latin-1 letter c -/
theorem sb_appendChar {post : StJ4ec0e → Prop} {mc ms : Nat} {ml : Int32} {t : Nat → Nat} {a : Nat → Int32} {n m c : Nat} (hnm : n ≤ m) (hm : m ≤ 65536) (hL : sb_Lat t n a) (hf : sb_Fit a) (hc : c < 256) (hr : sb_Room (n + 1) m mc ms)
    (hp : ∀ a', sb_Lat (sb_cat t n (fun _ => c)) (n + 1) a' → sb_Fit a' → post (0, ml, nI (n + 1), a', sb_cap (n + 1) m)) : wpJ4_append_cf468_b0715 post mc ms (0, ml, nI n, a, m) (nI c) := by
  have hg := sb_cap_ge (n + 1) m
  have hl := sb_cap_le hm hr
  refine ⟨mc, ms, by omega, by omega, mc, ms, by omega, by omega, ?_⟩
  rw [nI_1]
  refine sb_ensure hm (by omega) hf hr (fun a' hf' hk => ?_)
  refine br_t rfl (br_f (by decide) ?_)
  refine br_f (show ¬ nI 255 < nI c from nI_nlt (by omega) (by decide)) (br_f (by decide) ?_)
  refine nm_r (nI_1 n) ⟨vp_in_nI (by omega) (by omega), nm_r (e' := upd a' n (sb_b c)) (by rw [nI_clamp (by omega), pk_vb]; rfl) ?_⟩
  refine hp _ (sb_latPut hL (fun j hj => ?_) (fun i hi => ?_)) (sb_fitU hf' (sb_fitB c))
  · rw [pk_un (by omega)]
    exact hk j (by omega)
  · obtain rfl : i = 0 := by omega
    exact ⟨hc, pk_us⟩
/-- StringBuilder.append(String), a Latin-1 text s of w letters -/
theorem sb_appendStr {post : StJ9c5ae → Prop} {mc ms : Nat} {ml h2 z2 : Int32} {t s : Nat → Nat} {a b : Nat → Int32} {n m w : Nat} (hnm : n ≤ m) (hm : m ≤ 65536) (hL : sb_Lat t n a) (hf : sb_Fit a) (hw : w ≤ 65536) (hb : sb_Lat s w b) (hfb : sb_Fit b) (hr : sb_Room (n + w) m mc ms)
    (hp : ∀ a', sb_Lat (sb_cat t n s) (n + w) a' → sb_Fit a' → post (0, ml, nI (n + w), a', sb_cap (n + w) m, 0, h2, z2, b, w)) : wpJ4_append_15ec4_b217c post mc ms (0, ml, nI n, a, m, 0, h2, z2, b, w) := by
  have hg := sb_cap_ge (n + w) m
  have hl := sb_cap_le hm hr
  refine ⟨mc, ms, by omega, by omega, ?_⟩
  rw [wpJ5_append_cf1ce_b217c]
  refine sv_length ⟨mc, ms, by omega, by omega, ?_⟩
  rw [nI_add]
  refine sb_ensure hm (by omega) hf hr (fun a' hf' hk => ?_)
  refine ⟨0, 0, by omega, by omega, 0, 0, by omega, by omega, by decide, br_t rfl ⟨by decide, br_t rfl ?_⟩⟩
  rw [sb_shl0, show (Int32.ofNat w).toNatClampNeg = w from nI_clamp (by omega), nI_clamp (n := n) (by omega), sb_cl0]
  refine ⟨by decide, nI_pos (by omega), nI_pos (by omega), by omega, by omega, fun i _ => hfb _, nm_e (nm_r (nI_add n w) ?_)⟩
  refine hp _ (sb_latPut hL (fun j hj => ?_) (fun i hi => ?_)) (sb_fitC hfb hf')
  · rw [pk_cpy_out (by omega)]
    exact hk j (by omega)
  · rw [pk_cpy_in (by omega) (by omega), show 0 + (n + i - n) = i by omega]
    exact hb i hi
theorem sb_copyRange {post : StJefc9b → Prop} {mc ms : Nat} {a : Nat → Int32} {n m : Nat} (hnm : n ≤ m) (hm : m ≤ 65536) (hf : sb_Fit a) (hmc : 1 ≤ mc) (hms : n ≤ ms)
    (hp : ∀ a', sb_Fit a' → (∀ j, j < n → a' j = a j) → post (a, m, a', n)) : wpJ7_copyOfRange_39247_f5dda post mc ms (a, m) 0 (nI n) := by
  refine br_t rfl (pk_eq n m (fun e => ?_) (fun e => ?_))
  · subst e
    exact ⟨fun i _ => hf i, hmc, by omega, hp a hf (fun _ _ => rfl)⟩
  · have ei : (if nI n < (Int32.ofNat m - 0) then nI n else (Int32.ofNat m - 0)) = nI n := by
      rw [show Int32.ofNat m - 0 = nI m from pk_sub (a := m) (b := 0) (by omega)]
      exact if_pos (nI_lt (by omega) (by omega))
    refine ⟨mc, ms, by omega, by omega, br_t (nI_pos' (by omega)) (nm_r (e' := nI n) (pk_sub (a := n) (b := 0) (by omega)) ⟨nI_pos (by omega), nm_r (nI_clamp (by omega)) ⟨by omega, hmc, by omega, ?_⟩⟩)⟩
    rw [ei, nI_clamp (n := n) (by omega), sb_cl0]
    exact ⟨by decide, by decide, nI_pos (by omega), by omega, by omega, fun i _ => hf _, nm_e (hp _ (sb_fitC hf sb_fit0) (fun j hj => sb_cpy0 hj))⟩
/-- StringBuilder.toString -/
theorem sb_toString {post : StJ9c5ae → Prop} {mc ms : Nat} {ml : Int32} {t : Nat → Nat} {a : Nat → Int32} {n m : Nat} (hnm : n ≤ m) (hm : m ≤ 65536) (hL : sb_Lat t n a) (hf : sb_Fit a) (hmc : 2 ≤ mc) (hms : n + 4 ≤ ms)
    (hp : ∀ a', sb_Lat t n a' → sb_Fit a' → post (0, ml, nI n, a, m, 0, 0, 0, a', n)) : wpJ4_toString_0e30d_76c3d post mc ms (0, ml, nI n, a, m) := by
  refine ⟨by omega, by omega, mc - 1, ms - 4, by omega, by omega, mc - 1, ms - 4, by omega, by omega, br_t rfl (br_f (by decide) ⟨mc - 1, ms - 4, by omega, by omega, ?_⟩)⟩
  exact sb_copyRange hnm hm hf (by omega) (by omega) (fun a' hf' hk => hp a' (sb_latKeep hL hk) hf')
theorem sv_check {post : Unit → Prop} {i n : Nat} (hi : i < n) (hn : n < 2 ^ 31) (hp : post ()) : wpJ0_checkIndex_df160_48e5c post () (nI i) (nI n) :=
  ⟨br_f (nI_pos (by omega)) (br_t (nI_lt hi hn) hp), br_f (nI_pos (by omega)) (br_t (nI_lt hi hn) hp)⟩
/-- String.charAt of a Latin-1 text -/
theorem sv_charAt {post : Int32 → Prop} {h z : Int32} {t : Nat → Nat} {a : Nat → Int32} {n i : Nat} (hn : n ≤ 65536) (hL : sb_Lat t n a) (hi : i < n) (hp : post (nI (t i))) : wpJ0_charAt_5068e_f8cf6 post (0, h, z, a, n) (nI i) := by
  obtain ⟨h1, h2⟩ := hL i hi
  obtain ⟨b1, b2, -⟩ := sb_byte _ h1
  have hc := (pk_charN (q := t i) (by omega)).1
  refine br_t rfl (br_f (by decide) ?_)
  rw [wpJ1_charAt_3b067_49ada]
  refine sv_check hi (by omega) ⟨vp_in_nI hi (by omega), ?_⟩
  rw [nI_clamp (by omega), h2, b1, b2]
  exact ⟨hc, hc, hp⟩
theorem sv_compress {P : Int32 → StJbedf7 → Prop} {t : Nat → Nat} {b : Nat → Int32} {n : Nat} (hn : n ≤ 65536) (ht : ∀ j, j < n → t j < 256 ∧ b j = nI (t j)) (hP : ∀ a', sb_Lat t n a' → sb_Fit a' → P (nI n) (b, n, a', n)) :
    ∀ (d k : Nat) (a : Nat → Int32), k + d = n → sb_Lat t k a → sb_Fit a → wJ2_compress_fe38e_1fd7f_3 P (nI n) n n (d + 1) (nI k) (nI k) (nI k) b a := by
  intro d
  induction d with
  | zero =>
    intro k a hk hL hf
    rw [wJ2_compress_fe38e_1fd7f_3]
    refine br_t ((nI_leI (by omega) (by omega)).mpr (by omega)) (hP a ?_ hf)
    rw [← show k = n by omega]
    exact hL
  | succ d ih =>
    intro k a hk hL hf
    obtain ⟨b1, b2⟩ := ht k (by omega)
    obtain ⟨-, -, b3⟩ := sb_byte _ b1
    rw [wJ2_compress_fe38e_1fd7f_3]
    refine br_f (nI_ge (by omega) (by omega)) ⟨vp_in_nI (by omega) (by omega), nm_r (e' := nI (t k)) (by rw [nI_clamp (by omega), b2]) (br_t b3 ⟨vp_in_nI (by omega) (by omega), ?_⟩)⟩
    refine nm_r (e' := upd a k (sb_b (t k))) (by rw [nI_clamp (by omega), pk_vb]; rfl) (nm_r (nI_1 k) (nm_r (nI_1 k) (nm_r (nI_1 k) ?_)))
    refine ih (k + 1) _ (by omega) (fun j hj => ?_) (sb_fitU hf (sb_fitB _))
    by_cases e : j = k
    · subst e
      exact ⟨b1, pk_us⟩
    · rw [pk_un e]
      exact hL j (by omega)
/-- String.equals of two Strings with the same bytes -/
theorem sv_equals {post : Int32 → Prop} {h z h' z' : Int32} {a a' : Nat → Int32} {n : Nat} (hn : n ≤ 65536) (he : ∀ j, j < n → a j = a' j) (hp : post 1) : wpJ0_equals_9ea2d_d3b40 post (0, h, z, a, n, 0, h', z', a', n) := by
  have L : ∀ (P : Int32 → Prop), P 1 → ∀ (d k : Nat), k + d = n → wJ1_equals_b5fdf_9f0d2_9 P a n a' n (d + 1) (nI k) := by
    intro P h1 d
    induction d with
    | zero =>
      intro k hk
      rw [wJ1_equals_b5fdf_9f0d2_9]
      exact br_t ((nI_leI (by omega) (by omega)).mpr (by omega)) h1
    | succ d ih =>
      intro k hk
      rw [wJ1_equals_b5fdf_9f0d2_9]
      refine br_f (nI_ge (by omega) (by omega)) ⟨vp_in_nI (by omega) (by omega), vp_in_nI (by omega) (by omega), br_t ?_ (nm_r (nI_1 k) (ih (k + 1) (by omega)))⟩
      rw [nI_clamp (by omega)]
      exact he k (by omega)
  exact br_t rfl (br_t rfl ⟨n + 1, L _ (br_f (by decide) hp) n 0 (by omega)⟩)
/-- every literal: its length is its byte list's, every entry is a byte -/
theorem sc_all : ∀ i, i < nJS → (lenJS.getD i 0 = (bytJS.getD i []).length ∧ (bytJS.getD i []).length < 2 ^ 31 ∧ ∀ b ∈ bytJS.getD i [], b.toInt8.toInt32 = b) := by decide +kernel
/-- the char at k -/
def sc_ch (i k : Nat) : Int32 := (bytJS.getD i []).getD k 0 &&& 255
/-- charAt(k) -/
theorem sc_charAt {post : Int32 → Prop} {u : StJ02238} {i k : Nat} (hi : i < nJS) (hk : k < lenJS.getD i 0) (h : post (sc_ch i k)) : wpJ0_charAt_5068e_7076d post u i (nI k) := by
  obtain ⟨hl, hL, -⟩ := sc_all i hi
  have eX : ((((bytJS.getD i []).getD (nI k).toNatClampNeg 0) &&& 255).toUInt32 % 65536).toInt32 = sc_ch i k := by
    rw [nI_clamp (by omega)]
    exact sc_c2 _
  have nX : narrow .char (.int (sc_ch i k)) = .int (sc_ch i k) := sc_nar _
  refine ⟨hi, hi, br_f (by decide) ⟨hi, ?_⟩⟩
  have core : vp_in (nI k) (lenJS.getD i 0) ∧ (narrow .char (.int ((((bytJS.getD i []).getD (nI k).toNatClampNeg 0) &&& 255).toUInt32 % 65536).toInt32) = .int ((((bytJS.getD i []).getD (nI k).toNatClampNeg 0) &&& 255).toUInt32 % 65536).toInt32 ∧ (narrow .char (.int ((((bytJS.getD i []).getD (nI k).toNatClampNeg 0) &&& 255).toUInt32 % 65536).toInt32) = .int ((((bytJS.getD i []).getD (nI k).toNatClampNeg 0) &&& 255).toUInt32 % 65536).toInt32 ∧ post ((((bytJS.getD i []).getD (nI k).toNatClampNeg 0) &&& 255).toUInt32 % 65536).toInt32)) := by
    rw [eX]
    exact ⟨vp_in_nI hk (by omega), nX, nX, h⟩
  exact ⟨br_f (nI_pos (by omega)) (br_t (nI_lt hk (by omega)) core), br_f (nI_pos (by omega)) (br_t (nI_lt hk (by omega)) core)⟩
end
section
/-! ===== the law's text(bits, size): at most 7 Latin-1 letters, or String's own empty bytes ===== -/
/-- new String(char[]) of n Latin-1 letters, n not 0 (the kit's sv_new, its post a sum here) -/
theorem tx_new {post : (StJ0f59a ⊕ StJd31f1) → Prop} {mc ms : Nat} {c h z : Int32} {t : Nat → Nat} {b : Nat → Int32} {n : Nat} (h0 : 0 < n) (hn : n ≤ 65536) (ht : ∀ j, j < n → t j < 256 ∧ b j = nI (t j)) (hmc : 1 ≤ mc) (hms : n ≤ ms)
    (hp : ∀ a', sb_Lat t n a' → sb_Fit a' → post (.inl (0, h, z, a', n, b, n))) : wpJ0_init_905df_fc072 post mc ms (c, h, z, b, n) := by
  refine ⟨mc, ms, by omega, by omega, br_f (nI_ne0 h0 (by omega)) ⟨mc, ms, by omega, by omega, nI_pos (by omega), nm_r (nI_clamp (by omega)) ⟨by omega, hmc, by omega, n + 1, ?_⟩⟩⟩
  refine sv_compress hn ht (fun a' hL hf => ?_) n 0 _ (by omega) (fun j hj => absurd hj (Nat.not_lt_zero j)) sb_fit0
  refine br_t rfl ⟨pk_nb _, ?_⟩
  have e1 : (((Int32.ofNat n - Int32.ofNat n).toUInt32 >>> ((31 : Int32).toUInt32 &&& Int32.toUInt32 31)).toInt32).toInt8.toInt32 = 0 := by
    rw [Int32.sub_self]
    decide
  rw [e1]
  exact ⟨by decide, by decide, hp a' hL hf⟩
/-- new String(char[0]) -/
theorem tx_new0 {post : (StJ0f59a ⊕ StJd31f1) → Prop} {mc ms : Nat} {c h z : Int32} {b : Nat → Int32} (hp : post (.inr (0, h, z, b, 0))) : wpJ0_init_905df_fc072 post mc ms (c, h, z, b, 0) :=
  ⟨0, 0, by omega, by omega, br_t rfl hp⟩
/-- the eight signs are Latin-1 letters -/
theorem tx_ch : ∀ k, k < 8 → (sc_ch 0 k).toNatClampNeg < 256 ∧ sc_ch 0 k = nI (sc_ch 0 k).toNatClampNeg := by decide +kernel
theorem tx_vc {q : Nat} (h : q < 65536) : vp_nar .char (nI q) = nI q := by
  unfold vp_nar
  rw [(pk_charN h).1]
theorem tx_13 {post : (St1 ⊕ St2) → Prop} {mc ms : Nat} {x0 : Int32} {n : Nat} (hn : n ≤ 7) (hmc : 3 ≤ mc) (hms : 2 * n + 4 ≤ ms)
    (hp : ∀ t a, 0 < n → sb_Lat t n a → sb_Fit a → post (.inl (0, 0, 0, a, n))) (hp0 : n = 0 → post (.inr (0, 0, 0))) :
    ∀ (d k : Nat) (am : Nat → Int32), k + d = n → (∀ j, j < k → ∃ q, q < 256 ∧ am j = nI q) → wL_text_13 post mc ms x0 0 1 (0 + n) n (d + 1) (nI k) am := by
  intro d
  induction d with
  | zero =>
    intro k am hk hq
    rw [wL_text_13]
    refine br_t ((nI_leI (by omega) (by omega)).mpr (by omega)) ⟨by omega, by omega, 1, n, by omega, by omega, ?_⟩
    by_cases h0 : 0 < n
    · refine tx_new (t := fun j => (am j).toNatClampNeg) h0 (by omega) (fun j hj => ?_) (by omega) (by omega) (fun a' hL hf => hp _ a' h0 hL hf)
      obtain ⟨q, h1, h2⟩ := hq j (by omega)
      show (am j).toNatClampNeg < 256 ∧ am j = nI (am j).toNatClampNeg
      rw [h2, nI_clamp (by omega)]
      exact ⟨h1, rfl⟩
    · obtain rfl : n = 0 := by omega
      exact tx_new0 (hp0 rfl)
  | succ d ih =>
    intro k am hk hq
    obtain ⟨j, hj, e⟩ := pk_andE ((x0.toUInt32 >>> ((3 * nI k).toUInt32 &&& Int32.toUInt32 31)).toInt32) (m := 7) 3 (by decide)
    obtain ⟨q, hq1, hq2⟩ : ∃ q, q < 256 ∧ sc_ch 0 j = nI q := ⟨_, tx_ch j (by omega)⟩
    rw [wL_text_13]
    refine br_f (nI_ge (by omega) (by omega)) ⟨by decide, ?_⟩
    rw [e]
    refine sc_charAt (by decide) (show j < 8 by omega) ⟨vp_in_nI (by omega) (by omega), ?_⟩
    refine nm_r (e' := upd am k (nI q)) (by rw [nI_clamp (by omega), hq2, tx_vc (by omega)]) (nm_r (nI_1 k) (ih (k + 1) _ (by omega) (fun i hi => ?_)))
    by_cases h : i = k
    · subst h
      exact ⟨q, hq1, pk_us⟩
    · rw [pk_un h]
      exact hq i (by omega)
theorem tx_text {post : (St1 ⊕ St2) → Prop} {mc ms : Nat} {p0 p1 : Int32} (hmc : 3 ≤ mc) (hms : 18 ≤ ms)
    (hp : ∀ n t a, 0 < n → n ≤ 7 → sb_Lat t n a → sb_Fit a → post (.inl (0, 0, 0, a, n))) (hp0 : post (.inr (0, 0, 0))) : wpL_text post mc ms () p0 p1 := by
  obtain ⟨n, hn, e⟩ := pk_andE p1 (m := 7) 3 (by decide)
  unfold wpL_text
  rw [e]
  exact ⟨nI_pos (by omega), nm_r (nI_clamp (by omega)) ⟨by omega, by omega, by omega, n + 1, tx_13 (by omega) (by omega) (by omega) (fun t a h0 hL hf => hp n t a h0 (by omega) hL hf) (fun _ => hp0) n 0 _ (by omega) (fun j hj => absurd hj (Nat.not_lt_zero j))⟩⟩
end
section
/-! ===== padLeft, the class's and the twin's, of a text of 1 to 7 letters: W - n times the letter c, then the text ===== -/
theorem pd_const {c i : Nat} : sb_cat (fun _ => c) i (fun _ => c) = fun _ => c := by
  funext j
  show (if j < i then c else c) = c
  split <;> rfl
theorem pd_cap {q : Nat} (h : q ≤ 16) : sb_cap q 16 = 16 := if_pos h
theorem pd_latEq {t t' : Nat → Nat} {n : Nat} {a : Nat → Int32} (h : sb_Lat t n a) (e : ∀ j, j < n → t j = t' j) : sb_Lat t' n a := fun j hj => by
  rw [← e j hj]
  exact h j hj
/-- one letter more of a text that stands behind g letters -/
theorem pd_cat1 {s t : Nat → Nat} {g i j : Nat} (hj : j < g + i + 1) : sb_cat (sb_cat s g t) (g + i) (fun _ => t i) j = sb_cat s g t j := by
  by_cases h : j < g + i
  · exact sb_cat_lo h
  · obtain rfl : j = g + i := by omega
    have e1 : sb_cat (sb_cat s g t) (g + i) (fun _ => t i) (g + i + 0) = t i := sb_cat_hi
    have e2 : sb_cat s g t (g + i) = t i := sb_cat_hi
    rw [e2]
    exact e1
/-- append(char) into a builder of 16 places with room left -/
theorem pd_app {post : StJ4ec0e → Prop} {mc ms : Nat} {ml : Int32} {t : Nat → Nat} {a : Nat → Int32} {n c : Nat} (hn : n < 16) (hL : sb_Lat t n a) (hf : sb_Fit a) (hc : c < 256)
    (hp : ∀ a', sb_Lat (sb_cat t n (fun _ => c)) (n + 1) a' → sb_Fit a' → post (0, ml, nI (n + 1), a', 16)) : wpJ4_append_cf468_b0715 post mc ms (0, ml, nI n, a, 16) (nI c) :=
  sb_appendChar (by omega) (by omega) hL hf hc (Or.inl (by omega)) (fun a' h1 h2 => by
    rw [pd_cap (by omega)]
    exact hp a' h1 h2)
/-- new StringBuilder() -/
theorem pd_init {post : StJ4ec0e → Prop} {mc ms : Nat} (hmc : 1 ≤ mc) (hms : 16 ≤ ms) (hp : post (0, 0, 0, (fun _ => 0), 16)) : wpJ4_init_da8c8_e1428 post mc ms (0, 0, 0) :=
  ⟨mc, ms, by omega, by omega, by decide, nm_r (e' := 16) (by decide) ⟨by omega, hmc, by omega, hp⟩⟩
theorem pd_none {t : Nat → Nat} {a : Nat → Int32} : sb_Lat t 0 a := fun j hj => absurd hj (Nat.not_lt_zero j)
/-- the class's loop: i letters stand in the builder -/
theorem pd_X0_14 {post : St3 → Prop} {mc ms : Nat} {x1 h z : Int32} {t : Nat → Nat} {b : Nat → Int32} {n W c kc ks : Nat} (hn : n ≤ 7) (hb : sb_Lat t n b) (hfb : sb_Fit b) (hW : W ≤ 11) (hx : ∀ k, k < 12 → (x1 ≤ nI k ↔ W ≤ k)) (hc : c < 256) (hk : kc + 2 ≤ mc) (hs : ks + 15 ≤ ms)
    (hp : ∀ a', sb_Lat (sb_cat (fun _ => c) (W - n) t) (W - n + n) a' → post (0, h, z, b, n, 0, 0, 0, a', W - n + n)) :
    ∀ (d i : Nat) (ml : Int32) (a : Nat → Int32), i + d = W - n → sb_Lat (fun _ => c) i a → sb_Fit a → wX0_padLeft_14 post mc ms x1 (nI c) (d + 1) (nI (n + i)) kc ks 0 h z b n 0 ml (nI i) a 16 := by
  intro d
  induction d with
  | zero =>
    intro i ml a hi hL hf
    obtain rfl : i = W - n := by omega
    rw [wX0_padLeft_14]
    refine br_t ((hx _ (by omega)).mpr (by omega)) ⟨0, 0, by omega, by omega, ?_⟩
    refine sb_appendStr (by omega) (by omega) hL hf (by omega) hb hfb (Or.inl (by omega)) (fun a' hL' hf' => ?_)
    rw [pd_cap (by omega)]
    exact ⟨2, W - n + n + 4, by omega, by omega, sb_toString (by omega) (by omega) hL' hf' (by omega) (by omega) (fun a2 hL2 _ => hp a2 hL2)⟩
  | succ d ih =>
    intro i ml a hi hL hf
    rw [wX0_padLeft_14]
    refine br_f (fun z' => by have := (hx _ (by omega)).mp z'; omega) ⟨0, 0, by omega, by omega, pd_app (by omega) hL hf hc (fun a' hL' hf' => ?_)⟩
    rw [pd_const] at hL'
    exact nm_r (e' := nI (n + (i + 1))) (nI_1 (n + i)) (ih (i + 1) ml a' (by omega) hL' hf')
theorem pd_X0 {post : St3 → Prop} {mc ms : Nat} {x1 h z : Int32} {t : Nat → Nat} {b : Nat → Int32} {n W c : Nat} (hn : n ≤ 7) (hb : sb_Lat t n b) (hfb : sb_Fit b) (hW : W ≤ 11) (hx : ∀ k, k < 12 → (x1 ≤ nI k ↔ W ≤ k)) (hc : c < 256) (hmc : 4 ≤ mc) (hms : 35 ≤ ms)
    (hp : ∀ a', sb_Lat (sb_cat (fun _ => c) (W - n) t) (W - n + n) a' → post (0, h, z, b, n, 0, 0, 0, a', W - n + n)) : wpX0_padLeft post mc ms (0, h, z, b, n) x1 (nI c) :=
  ⟨by omega, by omega, 1, 16, by omega, by omega, pd_init (by omega) (by omega) (sv_length ⟨W - n + 1, pd_X0_14 hn hb hfb hW hx hc (by omega) (by omega) hp (W - n) 0 0 _ (by omega) pd_none sb_fit0⟩)⟩
/-- the twin's second loop: g letters c and i letters of the text stand in the builder -/
theorem pd_X1_35 {post : St3 → Prop} {mc ms : Nat} {h z : Int32} {t : Nat → Nat} {b : Nat → Int32} {n g c kc ks : Nat} (hn : n ≤ 7) (hb : sb_Lat t n b) (hg : g + n ≤ 11) (hk : kc + 2 ≤ mc) (hs : ks + 15 ≤ ms)
    (hp : ∀ a', sb_Lat (sb_cat (fun _ => c) g t) (g + n) a' → post (0, h, z, b, n, 0, 0, 0, a', g + n)) :
    ∀ (d i : Nat) (ml : Int32) (a : Nat → Int32), i + d = n → sb_Lat (sb_cat (fun _ => c) g t) (g + i) a → sb_Fit a → wX1_padLeft_35 post mc ms (d + 1) (nI i) kc ks 0 h z b n 0 ml (nI (g + i)) a 16 := by
  intro d
  induction d with
  | zero =>
    intro i ml a hi hL hf
    obtain rfl : i = n := by omega
    rw [wX1_padLeft_35]
    exact sv_length (br_t ((nI_leI (by omega) (by omega)).mpr (by omega)) ⟨2, g + i + 4, by omega, by omega, sb_toString (by omega) (by omega) hL hf (by omega) (by omega) (fun a2 hL2 _ => hp a2 hL2)⟩)
  | succ d ih =>
    intro i ml a hi hL hf
    rw [wX1_padLeft_35]
    refine sv_length (br_f (nI_ge (by omega) (by omega)) (sv_charAt (by omega) hb (by omega) ⟨0, 0, by omega, by omega, pd_app (by omega) hL hf (hb i (by omega)).1 (fun a' hL' hf' => ?_)⟩))
    exact nm_r (nI_1 i) (ih (i + 1) ml a' (by omega) (pd_latEq hL' (fun j hj => pd_cat1 hj)) hf')
theorem pd_X1_out {post : St3 → Prop} {mc ms : Nat} {x4 ml h z : Int32} {t : Nat → Nat} {a b : Nat → Int32} {n g c kc ks f : Nat} (hn : n ≤ 7) (hb : sb_Lat t n b) (hg : g + n ≤ 11) (hk : kc + 2 ≤ mc) (hs : ks + 15 ≤ ms)
    (hp : ∀ a', sb_Lat (sb_cat (fun _ => c) g t) (g + n) a' → post (0, h, z, b, n, 0, 0, 0, a', g + n)) (hx : x4 ≤ nI n) (hL : sb_Lat (fun _ => c) g a) (hf : sb_Fit a) :
    wX1_padLeft_11 post mc ms (nI c) (f + 1) x4 kc ks 0 h z b n 0 ml (nI g) a 16 := by
  rw [wX1_padLeft_11]
  exact sv_length (br_t hx ⟨n + 1, pd_X1_35 (g := g) hn hb hg hk hs hp n 0 ml a (by omega) (pd_latEq hL (fun j hj => (sb_cat_lo (t := fun _ => c) (s := t) (n := g) hj).symm)) hf⟩)
/-- the twin's first loop: i letters stand in the builder, d are wanting -/
theorem pd_X1_11 {post : St3 → Prop} {mc ms : Nat} {h z : Int32} {t : Nat → Nat} {b : Nat → Int32} {n g c kc ks : Nat} (hn : n ≤ 7) (hb : sb_Lat t n b) (hg : g + n ≤ 11) (hc : c < 256) (hk : kc + 2 ≤ mc) (hs : ks + 15 ≤ ms)
    (hp : ∀ a', sb_Lat (sb_cat (fun _ => c) g t) (g + n) a' → post (0, h, z, b, n, 0, 0, 0, a', g + n)) :
    ∀ (d i : Nat) (ml : Int32) (a : Nat → Int32), i + d = g → sb_Lat (fun _ => c) i a → sb_Fit a → wX1_padLeft_11 post mc ms (nI c) (d + 1) (nI (n + d)) kc ks 0 h z b n 0 ml (nI i) a 16 := by
  intro d
  induction d with
  | zero =>
    intro i ml a hi hL hf
    obtain rfl : i = g := by omega
    exact pd_X1_out hn hb hg hk hs hp (nI_le (by omega) (by omega)) hL hf
  | succ d ih =>
    intro i ml a hi hL hf
    rw [wX1_padLeft_11]
    refine sv_length (br_f (nI_ge (by omega) (by omega)) ⟨0, 0, by omega, by omega, pd_app (by omega) hL hf hc (fun a' hL' hf' => ?_)⟩)
    rw [pd_const] at hL'
    exact nm_r (e' := nI (n + d)) (pk_m1 (n + d)) (ih (i + 1) ml a' (by omega) hL' hf')
theorem pd_X1 {post : St3 → Prop} {mc ms : Nat} {x1 h z : Int32} {t : Nat → Nat} {b : Nat → Int32} {n W c : Nat} (hn : n ≤ 7) (hb : sb_Lat t n b) (hW : W ≤ 11) (hx : ∀ k, k < 12 → (x1 ≤ nI k ↔ W ≤ k)) (hw : 0 < W → x1 = nI W) (hc : c < 256) (hmc : 4 ≤ mc) (hms : 35 ≤ ms)
    (hp : ∀ a', sb_Lat (sb_cat (fun _ => c) (W - n) t) (W - n + n) a' → post (0, h, z, b, n, 0, 0, 0, a', W - n + n)) : wpX1_padLeft post mc ms (0, h, z, b, n) x1 (nI c) := by
  refine ⟨by omega, by omega, 1, 16, by omega, by omega, pd_init (by omega) (by omega) ?_⟩
  by_cases hWn : W ≤ n
  · have e : W - n = 0 := by omega
    rw [e] at hp
    exact ⟨0 + 1, pd_X1_out (g := 0) hn hb (by omega) (by omega) (by omega) hp ((hx n (by omega)).mpr hWn) pd_none sb_fit0⟩
  · have key := pd_X1_11 (kc := 1 + 1) (ks := 4 + 16) (mc := mc) (ms := ms) (g := W - n) hn hb (by omega) hc (by omega) (by omega) hp (W - n) 0 0 (fun _ => 0) (by omega) pd_none sb_fit0
    rw [show n + (W - n) = W by omega] at key
    rw [hw (by omega)]
    exact ⟨W - n + 1, key⟩
end
section
/-! ===== padLeft of the empty text (String's own empty bytes): W times the letter c ===== -/
theorem pe_length {post : Int32 → Prop} {h z : Int32} (hp : post (nI 0)) : wpJ0_length_8abf5_fa096 post (0, h, z) :=
  ⟨by decide, Eq.mpr (congrArg post (sb_shr0 (Int32.ofNat (lenJS.getD 1 0)))) hp⟩
/-- append(String) of the empty bytes -/
theorem pe_append {post : StJ04d0a → Prop} {mc ms : Nat} {ml h z : Int32} {t : Nat → Nat} {a : Nat → Int32} {n : Nat} (hn : n ≤ 16) (hL : sb_Lat t n a) (hf : sb_Fit a)
    (hp : ∀ a', sb_Lat t n a' → sb_Fit a' → post (0, ml, nI n, a', 16, 0, h, z)) : wpJ4_append_15ec4_2cee4 post mc ms (0, ml, nI n, a, 16, 0, h, z) := by
  refine ⟨mc, ms, by omega, by omega, ?_⟩
  rw [wpJ5_append_cf1ce_2cee4]
  refine pe_length ⟨mc, ms, by omega, by omega, ?_⟩
  rw [nI_add]
  refine sb_ensure (by omega) (by omega) hf (Or.inl (by omega)) (fun a' hf' hk => ?_)
  refine ⟨0, 0, by omega, by omega, 0, 0, by omega, by omega, by decide, br_t rfl ⟨by decide, br_t rfl ?_⟩⟩
  rw [sb_shl0, show (Int32.ofNat (lenJS.getD 1 0)).toNatClampNeg = 0 by decide, nI_clamp (n := n) (by omega), sb_cl0, pd_cap (by omega)]
  refine ⟨by decide, nI_pos (by omega), by decide, by decide, by omega, fun i hi => absurd hi (Nat.not_lt_zero i), nm_e (nm_r (nI_add n 0) ?_)⟩
  refine hp _ (sb_latKeep hL (fun j hj => ?_)) (fun j => ?_)
  · rw [pk_cpy_out (by omega)]
    exact hk j (by omega)
  · rw [pk_cpy_out (by omega)]
    exact hf' j
theorem pe_X0_14 {post : St4 → Prop} {mc ms : Nat} {x1 h z : Int32} {W c kc ks : Nat} (hW : W ≤ 11) (hx : ∀ k, k < 12 → (x1 ≤ nI k ↔ W ≤ k)) (hc : c < 256) (hk : kc + 2 ≤ mc) (hs : ks + 15 ≤ ms)
    (hp : ∀ a', sb_Lat (fun _ => c) W a' → post (0, h, z, 0, 0, 0, a', W)) :
    ∀ (d i : Nat) (ml : Int32) (a : Nat → Int32), i + d = W → sb_Lat (fun _ => c) i a → sb_Fit a → wX0_padLeft_2_14 post mc ms x1 (nI c) (d + 1) (nI i) kc ks 0 h z 0 ml (nI i) a 16 := by
  intro d
  induction d with
  | zero =>
    intro i ml a hi hL hf
    obtain rfl : i = W := by omega
    rw [wX0_padLeft_2_14]
    refine br_t ((hx _ (by omega)).mpr (by omega)) ⟨0, 0, by omega, by omega, ?_⟩
    refine pe_append (by omega) hL hf (fun a' hL' hf' => ?_)
    exact ⟨2, i + 4, by omega, by omega, sb_toString (by omega) (by omega) hL' hf' (by omega) (by omega) (fun a2 hL2 _ => hp a2 hL2)⟩
  | succ d ih =>
    intro i ml a hi hL hf
    rw [wX0_padLeft_2_14]
    refine br_f (fun z' => by have := (hx _ (by omega)).mp z'; omega) ⟨0, 0, by omega, by omega, pd_app (by omega) hL hf hc (fun a' hL' hf' => ?_)⟩
    rw [pd_const] at hL'
    exact nm_r (nI_1 i) (ih (i + 1) ml a' (by omega) hL' hf')
theorem pe_X0 {post : St4 → Prop} {mc ms : Nat} {x1 h z : Int32} {W c : Nat} (hW : W ≤ 11) (hx : ∀ k, k < 12 → (x1 ≤ nI k ↔ W ≤ k)) (hc : c < 256) (hmc : 4 ≤ mc) (hms : 35 ≤ ms)
    (hp : ∀ a', sb_Lat (fun _ => c) W a' → post (0, h, z, 0, 0, 0, a', W)) : wpX0_padLeft_2 post mc ms (0, h, z) x1 (nI c) :=
  ⟨by omega, by omega, 1, 16, by omega, by omega, pd_init (by omega) (by omega) (pe_length ⟨W + 1, pe_X0_14 hW hx hc (by omega) (by omega) hp W 0 0 _ (by omega) pd_none sb_fit0⟩)⟩
theorem pe_X1_out {post : St4 → Prop} {mc ms : Nat} {x4 ml h z : Int32} {a : Nat → Int32} {g c kc ks f : Nat} (hg : g ≤ 11) (hk : kc + 2 ≤ mc) (hs : ks + 15 ≤ ms)
    (hp : ∀ a', sb_Lat (fun _ => c) g a' → post (0, h, z, 0, 0, 0, a', g)) (hx : x4 ≤ nI 0) (hL : sb_Lat (fun _ => c) g a) (hf : sb_Fit a) :
    wX1_padLeft_2_11 post mc ms (nI c) (f + 1) x4 kc ks 0 h z 0 ml (nI g) a 16 := by
  rw [wX1_padLeft_2_11]
  refine pe_length (br_t hx ⟨0 + 1, ?_⟩)
  rw [wX1_padLeft_2_35]
  exact pe_length (br_t (by decide) ⟨2, g + 4, by omega, by omega, sb_toString (by omega) (by omega) hL hf (by omega) (by omega) (fun a2 hL2 _ => hp a2 hL2)⟩)
theorem pe_X1_11 {post : St4 → Prop} {mc ms : Nat} {h z : Int32} {g c kc ks : Nat} (hg : g ≤ 11) (hc : c < 256) (hk : kc + 2 ≤ mc) (hs : ks + 15 ≤ ms)
    (hp : ∀ a', sb_Lat (fun _ => c) g a' → post (0, h, z, 0, 0, 0, a', g)) :
    ∀ (d i : Nat) (ml : Int32) (a : Nat → Int32), i + d = g → sb_Lat (fun _ => c) i a → sb_Fit a → wX1_padLeft_2_11 post mc ms (nI c) (d + 1) (nI d) kc ks 0 h z 0 ml (nI i) a 16 := by
  intro d
  induction d with
  | zero =>
    intro i ml a hi hL hf
    obtain rfl : i = g := by omega
    exact pe_X1_out hg hk hs hp (nI_le (by omega) (by omega)) hL hf
  | succ d ih =>
    intro i ml a hi hL hf
    rw [wX1_padLeft_2_11]
    refine pe_length (br_f (nI_ge (by omega) (by omega)) ⟨0, 0, by omega, by omega, pd_app (by omega) hL hf hc (fun a' hL' hf' => ?_)⟩)
    rw [pd_const] at hL'
    exact nm_r (pk_m1 d) (ih (i + 1) ml a' (by omega) hL' hf')
theorem pe_X1 {post : St4 → Prop} {mc ms : Nat} {x1 h z : Int32} {W c : Nat} (hW : W ≤ 11) (hx : ∀ k, k < 12 → (x1 ≤ nI k ↔ W ≤ k)) (hw : 0 < W → x1 = nI W) (hc : c < 256) (hmc : 4 ≤ mc) (hms : 35 ≤ ms)
    (hp : ∀ a', sb_Lat (fun _ => c) W a' → post (0, h, z, 0, 0, 0, a', W)) : wpX1_padLeft_2 post mc ms (0, h, z) x1 (nI c) := by
  refine ⟨by omega, by omega, 1, 16, by omega, by omega, pd_init (by omega) (by omega) ?_⟩
  by_cases hWn : W ≤ 0
  · obtain rfl : W = 0 := by omega
    exact ⟨0 + 1, pe_X1_out (g := 0) (by omega) (by omega) (by omega) hp ((hx 0 (by omega)).mpr hWn) pd_none sb_fit0⟩
  · rw [hw (by omega)]
    exact ⟨W + 1, pe_X1_11 (g := W) hW hc (by omega) (by omega) hp W 0 0 _ (by omega) pd_none sb_fit0⟩
end
section
/-! ===== the law ===== -/
theorem la_w1 : ∀ j, j < 16 → ∀ k, k < 12 → (nI j - 4 ≤ nI k ↔ j - 4 ≤ k) := by decide +kernel
theorem la_w2 : ∀ j, j < 16 → 0 < j - 4 → nI j - 4 = nI (j - 4) := by decide +kernel
/-- the width, -4 to 11, as a natural W (0 for what is below) -/
theorem la_w (p : Int32) : ∃ W, W ≤ 11 ∧ (∀ k, k < 12 → ((p &&& 15) - 4 ≤ nI k ↔ W ≤ k)) ∧ (0 < W → (p &&& 15) - 4 = nI W) := by
  obtain ⟨j, hj, e⟩ := pk_andE p (m := 15) 4 (by decide)
  rw [e]
  exact ⟨j - 4, by omega, la_w1 j hj, la_w2 j hj⟩
/-- the fill, a Latin-1 letter -/
theorem la_f (p : Int32) : ∃ c, c < 256 ∧ ((p &&& 255).toUInt32 % 65536).toInt32 = nI c := by
  obtain ⟨j, hj, e⟩ := pk_andE p (m := 255) 8 (by decide)
  rw [e]
  exact ⟨j, hj, (sb_byte j hj).2.1⟩
theorem la_lawOf {post : Int32 → St0 → Prop} {mc ms : Nat} {p0 p1 p2 p3 : Int32} (hmc : 11 ≤ mc) (hms : 88 ≤ ms) (hp : post 1 ()) : wpL_lawOf post mc ms () p0 p1 p2 p3 := by
  obtain ⟨W, hW, hx, hw⟩ := la_w p2
  obtain ⟨c, hc, ec⟩ := la_f p3
  refine ⟨3, 18, by omega, by omega, tx_text (by omega) (by omega) (fun n t b h0 hn hb hfb => ?_) ?_⟩
  · refine nm_e (nm_r ec ⟨4, 35, by omega, by omega, pd_X0 hn hb hfb hW hx hc (by omega) (by omega) (fun a1 hL1 => ⟨4, 35, by omega, by omega, pd_X1 hn hb hW hx hw hc (by omega) (by omega) (fun a2 hL2 => ?_)⟩)⟩)
    exact sv_equals (by omega) (fun j hj => (hL1 j hj).2.trans (hL2 j hj).2.symm) ⟨by decide, hp⟩
  · refine nm_e (nm_r ec ⟨4, 35, by omega, by omega, pe_X0 hW hx hc (by omega) (by omega) (fun a1 hL1 => ⟨4, 35, by omega, by omega, pe_X1 hW hx hw hc (by omega) (by omega) (fun a2 hL2 => ?_)⟩)⟩)
    exact sv_equals (by omega) (fun j hj => (hL1 j hj).2.trans (hL2 j hj).2.symm) ⟨by decide, hp⟩
theorem la_cell {post : Int32 → Prop} {L : Nat} {xs : Nat → Int32} {i : Nat} (hL : L ≤ 4) (hi : i < 4) (h : ∀ r, post r) : wpL_cellAt post L xs () (nI i) :=
  pk_le L i (fun _ => h 0) (fun z => ⟨vp_in_nI z (by omega), h _⟩)
theorem i_vc (xs : Nat → Int32) (L : Nat) (hL : L ≤ 4) : wpL_law (fun r => r = 1) L xs :=
  la_cell (i := 0) hL (by decide) (fun _ => la_cell (i := 1) hL (by decide) (fun _ => la_cell (i := 2) hL (by decide) (fun _ => la_cell (i := 3) hL (by decide) (fun _ => ⟨11, 88, by omega, by omega, la_lawOf (by omega) (by omega) rfl⟩))))
end
