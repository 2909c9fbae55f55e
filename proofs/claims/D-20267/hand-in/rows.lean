section
theorem sv_length {post : Int32 → Prop} {h z : Int32} {a : Nat → Int32} {n : Nat} (hp : post (nI n)) : wpJ0_length_8abf5_6a20e post (0, h, z, a, n) :=
  ⟨by decide, Eq.mpr (congrArg post (sb_shr0 (Int32.ofNat n))) hp⟩
theorem sb_copyOf {post : StJefc9b → Prop} {mc ms : Nat} {a : Nat → Int32} {m q : Nat} (h : m < q) (hq : q ≤ 65536) (hf : sb_Fit a) (hmc : 1 ≤ mc) (hms : q ≤ ms)
    (hp : post (a, m, va_cpy a (fun _ => 0) 0 0 m, q)) : wpJ7_copyOf_9075b_9260e post mc ms (a, m) (nI q) := by
  have ei : (if nI q < Int32.ofNat m then nI q else Int32.ofNat m) = nI m := if_neg (nI_nlt (by omega) (by omega))
  have ec : (nI m).toNatClampNeg = m := nI_clamp (by omega)
  refine br_f (fun z => by have := (nI_eq (by omega) (by omega)).mp (show nI q = nI m from z); omega) ⟨nI_pos (by omega), nm_r (nI_clamp (by omega)) ⟨by omega, hmc, by omega, ?_⟩⟩
  rw [ei, ec, sb_cl0]
  exact ⟨by decide, by decide, nI_pos (by omega), by omega, by omega, fun i _ => hf _, nm_e hp⟩
/-- AbstractStringBuilder.ensureCapacityInternal, of Latin-1 bytes -/
theorem sb_ensure {post : StJ4ec0e → Prop} {mc ms : Nat} {ml z : Int32} {a : Nat → Int32} {m q : Nat} (hm : m ≤ 65536) (hq : q < 2 ^ 28) (hf : sb_Fit a) (hr : sb_Room q m mc ms)
    (hp : ∀ a', sb_Fit a' → (∀ j, j < m → a' j = a j) → post (0, ml, z, a', sb_cap q m)) : wpJ5_ensureCapacityInternal_d00df_b0715 post mc ms (0, ml, z, a, m) (nI q) := by
  have e1 : (nI q - Int32.ofNat m).toInt = (q : Int) - m := pk_sub_toInt (by omega) (by omega)
  refine nm_r (sb_shr0 (Int32.ofNat m)) ?_
  by_cases h : q ≤ m
  · refine br_t (by rw [Int32.le_iff_toInt_le, e1, Int32.toInt_zero]; omega) ?_
    have h9 := hp a hf (fun _ _ => rfl)
    rw [sb_cap, if_pos h] at h9
    exact h9
  · have hr' : 1 ≤ mc ∧ sb_cap q m ≤ ms ∧ sb_cap q m ≤ 65536 := hr.resolve_left h
    have hc : sb_cap q m = m + (if q - m < m + 2 then m + 2 else q - m) := by
      unfold sb_cap
      rw [if_neg h]
      split <;> split <;> omega
    have hg := sb_cap_ge q m
    refine br_f (fun hc => h (by rw [Int32.le_iff_toInt_le, e1, Int32.toInt_zero] at hc; omega)) ?_
    have e2 : Int32.ofNat m + ((2 : Int32) <<< ((0 : Int32) &&& 31)) = nI (m + 2) := by
      rw [sb_shl0]
      exact nI_add m 2
    have e3 : Int32.ofNat m + (if nI (q - m) < nI (m + 2) then nI (m + 2) else nI (q - m)) = nI (sb_cap q m) := by
      rw [hc]
      by_cases h2 : q - m < m + 2
      · rw [if_pos h2, if_pos (nI_lt h2 (by omega))]
        exact nI_add m (m + 2)
      · rw [if_neg h2, if_neg (nI_nlt (by omega) (by omega))]
        exact nI_add m (q - m)
    refine nm_e (nm_r (sb_shl0 (nI q)) (nm_r (show nI q - nI m = nI (q - m) from pk_sub (by omega)) ?_))
    rw [e2]
    refine nm_r e3 (br_f (nI_nle (by omega) (by omega)) (br_f (show ¬ nI 2147483639 < nI (sb_cap q m) from nI_nlt (by omega) (by decide)) ?_))
    refine br_f (fun z9 => by have := (nI_eq (by omega) (by decide)).mp (show nI (sb_cap q m) = nI 2147483647 from z9); omega) ?_
    rw [sb_shr0]
    refine ⟨mc, ms, by omega, by omega, ?_⟩
    rw [sb_shl0]
    exact sb_copyOf (by omega) hr'.2.2 hf hr'.1 hr'.2.1 (hp _ (sb_fitC hf sb_fit0) (fun j hj => sb_cpy0 hj))
/-- StringBuilder.append(char), a Latin-1 letter c -/
theorem sb_appendChar {post : StJ4ec0e → Prop} {mc ms : Nat} {ml : Int32} {t : Nat → Nat} {a : Nat → Int32} {n m c : Nat} (hnm : n ≤ m) (hm : m ≤ 65536) (hL : sb_Lat t n a) (hf : sb_Fit a) (hc : c < 256) (hr : sb_Room (n + 1) m mc ms)
    (hp : ∀ a', sb_Lat (sb_cat t n (fun _ => c)) (n + 1) a' → sb_Fit a' → post (0, ml, nI (n + 1), a', sb_cap (n + 1) m)) : wpJ4_append_cf468_b0715 post mc ms (0, ml, nI n, a, m) (nI c) := by
  have hg := sb_cap_ge (n + 1) m
  have hl := sb_cap_le hm hr
  refine ⟨mc, ms, by omega, by omega, mc, ms, by omega, by omega, ?_⟩
  rw [nI_1]
  refine sb_ensure hm (by omega) hf hr (fun a' hf' hk => ?_)
  refine br_t rfl (br_f (by decide) ?_)
  refine br_f (show ¬ nI 255 < nI c from nI_nlt (by omega) (by decide)) (br_f (by decide) ?_)
  refine nm_r (nI_1 n) ⟨vp_in_nI (by omega) (by omega), nm_r (e' := upd a' n (sb_b c)) (by rw [nI_clamp (by omega), pk_vb]; rfl) ?_⟩
  refine hp _ (sb_latPut hL (fun j hj => ?_) (fun i hi => ?_)) (sb_fitU hf' (sb_fitB c))
  · rw [pk_un (by omega)]
    exact hk j (by omega)
  · obtain rfl : i = 0 := by omega
    exact ⟨hc, pk_us⟩
/-- StringBuilder.append(String), a Latin-1 text s of w letters -/
theorem sb_appendStr {post : StJ9c5ae → Prop} {mc ms : Nat} {ml h2 z2 : Int32} {t s : Nat → Nat} {a b : Nat → Int32} {n m w : Nat} (hnm : n ≤ m) (hm : m ≤ 65536) (hL : sb_Lat t n a) (hf : sb_Fit a) (hw : w ≤ 65536) (hb : sb_Lat s w b) (hfb : sb_Fit b) (hr : sb_Room (n + w) m mc ms)
    (hp : ∀ a', sb_Lat (sb_cat t n s) (n + w) a' → sb_Fit a' → post (0, ml, nI (n + w), a', sb_cap (n + w) m, 0, h2, z2, b, w)) : wpJ4_append_15ec4_b217c post mc ms (0, ml, nI n, a, m, 0, h2, z2, b, w) := by
  have hg := sb_cap_ge (n + w) m
  have hl := sb_cap_le hm hr
  refine ⟨mc, ms, by omega, by omega, ?_⟩
  rw [wpJ5_append_cf1ce_b217c]
  refine sv_length ⟨mc, ms, by omega, by omega, ?_⟩
  rw [nI_add]
  refine sb_ensure hm (by omega) hf hr (fun a' hf' hk => ?_)
  refine ⟨0, 0, by omega, by omega, 0, 0, by omega, by omega, by decide, br_t rfl ⟨by decide, br_t rfl ?_⟩⟩
  rw [sb_shl0, show (Int32.ofNat w).toNatClampNeg = w from nI_clamp (by omega), nI_clamp (n := n) (by omega), sb_cl0]
  refine ⟨by decide, nI_pos (by omega), nI_pos (by omega), by omega, by omega, fun i _ => hfb _, nm_e (nm_r (nI_add n w) ?_)⟩
  refine hp _ (sb_latPut hL (fun j hj => ?_) (fun i hi => ?_)) (sb_fitC hfb hf')
  · rw [pk_cpy_out (by omega)]
    exact hk j (by omega)
  · rw [pk_cpy_in (by omega) (by omega), show 0 + (n + i - n) = i by omega]
    exact hb i hi
theorem sb_copyRange {post : StJefc9b → Prop} {mc ms : Nat} {a : Nat → Int32} {n m : Nat} (hnm : n ≤ m) (hm : m ≤ 65536) (hf : sb_Fit a) (hmc : 1 ≤ mc) (hms : n ≤ ms)
    (hp : ∀ a', sb_Fit a' → (∀ j, j < n → a' j = a j) → post (a, m, a', n)) : wpJ7_copyOfRange_39247_f5dda post mc ms (a, m) 0 (nI n) := by
  refine br_t rfl (pk_eq n m (fun e => ?_) (fun e => ?_))
  · subst e
    exact ⟨fun i _ => hf i, hmc, by omega, hp a hf (fun _ _ => rfl)⟩
  · have ei : (if nI n < (Int32.ofNat m - 0) then nI n else (Int32.ofNat m - 0)) = nI n := by
      rw [show Int32.ofNat m - 0 = nI m from pk_sub (a := m) (b := 0) (by omega)]
      exact if_pos (nI_lt (by omega) (by omega))
    refine ⟨mc, ms, by omega, by omega, br_t (nI_pos' (by omega)) (nm_r (e' := nI n) (pk_sub (a := n) (b := 0) (by omega)) ⟨nI_pos (by omega), nm_r (nI_clamp (by omega)) ⟨by omega, hmc, by omega, ?_⟩⟩)⟩
    rw [ei, nI_clamp (n := n) (by omega), sb_cl0]
    exact ⟨by decide, by decide, nI_pos (by omega), by omega, by omega, fun i _ => hf _, nm_e (hp _ (sb_fitC hf sb_fit0) (fun j hj => sb_cpy0 hj))⟩
/-- StringBuilder.toString -/
theorem sb_toString {post : StJ9c5ae → Prop} {mc ms : Nat} {ml : Int32} {t : Nat → Nat} {a : Nat → Int32} {n m : Nat} (hnm : n ≤ m) (hm : m ≤ 65536) (hL : sb_Lat t n a) (hf : sb_Fit a) (hmc : 2 ≤ mc) (hms : n + 4 ≤ ms)
    (hp : ∀ a', sb_Lat t n a' → sb_Fit a' → post (0, ml, nI n, a, m, 0, 0, 0, a', n)) : wpJ4_toString_0e30d_76c3d post mc ms (0, ml, nI n, a, m) := by
  refine ⟨by omega, by omega, mc - 1, ms - 4, by omega, by omega, mc - 1, ms - 4, by omega, by omega, br_t rfl (br_f (by decide) ⟨mc - 1, ms - 4, by omega, by omega, ?_⟩)⟩
  exact sb_copyRange hnm hm hf (by omega) (by omega) (fun a' hf' hk => hp a' (sb_latKeep hL hk) hf')
theorem sv_check {post : Unit → Prop} {i n : Nat} (hi : i < n) (hn : n < 2 ^ 31) (hp : post ()) : wpJ0_checkIndex_df160_48e5c post () (nI i) (nI n) :=
  ⟨br_f (nI_pos (by omega)) (br_t (nI_lt hi hn) hp), br_f (nI_pos (by omega)) (br_t (nI_lt hi hn) hp)⟩
/-- String.charAt of a Latin-1 text -/
theorem sv_charAt {post : Int32 → Prop} {h z : Int32} {t : Nat → Nat} {a : Nat → Int32} {n i : Nat} (hn : n ≤ 65536) (hL : sb_Lat t n a) (hi : i < n) (hp : post (nI (t i))) : wpJ0_charAt_5068e_f8cf6 post (0, h, z, a, n) (nI i) := by
  obtain ⟨h1, h2⟩ := hL i hi
  obtain ⟨b1, b2, -⟩ := sb_byte _ h1
  have hc := (pk_charN (q := t i) (by omega)).1
  refine br_t rfl (br_f (by decide) ?_)
  rw [wpJ1_charAt_3b067_49ada]
  refine sv_check hi (by omega) ⟨vp_in_nI hi (by omega), ?_⟩
  rw [nI_clamp (by omega), h2, b1, b2]
  exact ⟨hc, hc, hp⟩
theorem sv_compress {P : Int32 → StJbedf7 → Prop} {t : Nat → Nat} {b : Nat → Int32} {n : Nat} (hn : n ≤ 65536) (ht : ∀ j, j < n → t j < 256 ∧ b j = nI (t j)) (hP : ∀ a', sb_Lat t n a' → sb_Fit a' → P (nI n) (b, n, a', n)) :
    ∀ (d k : Nat) (a : Nat → Int32), k + d = n → sb_Lat t k a → sb_Fit a → wJ2_compress_fe38e_1fd7f_3 P (nI n) n n (d + 1) (nI k) (nI k) (nI k) b a := by
  intro d
  induction d with
  | zero =>
    intro k a hk hL hf
    rw [wJ2_compress_fe38e_1fd7f_3]
    refine br_t ((nI_leI (by omega) (by omega)).mpr (by omega)) (hP a ?_ hf)
    rw [← show k = n by omega]
    exact hL
  | succ d ih =>
    intro k a hk hL hf
    obtain ⟨b1, b2⟩ := ht k (by omega)
    obtain ⟨-, -, b3⟩ := sb_byte _ b1
    rw [wJ2_compress_fe38e_1fd7f_3]
    refine br_f (nI_ge (by omega) (by omega)) ⟨vp_in_nI (by omega) (by omega), nm_r (e' := nI (t k)) (by rw [nI_clamp (by omega), b2]) (br_t b3 ⟨vp_in_nI (by omega) (by omega), ?_⟩)⟩
    refine nm_r (e' := upd a k (sb_b (t k))) (by rw [nI_clamp (by omega), pk_vb]; rfl) (nm_r (nI_1 k) (nm_r (nI_1 k) (nm_r (nI_1 k) ?_)))
    refine ih (k + 1) _ (by omega) (fun j hj => ?_) (sb_fitU hf (sb_fitB _))
    by_cases e : j = k
    · subst e
      exact ⟨b1, pk_us⟩
    · rw [pk_un e]
      exact hL j (by omega)
/-- new String(char[]) of n Latin-1 letters, n not 0 -/
theorem sv_new {post : (StJ0f59a ⊕ StJd31f1) → Prop} {mc ms : Nat} {c h z : Int32} {t : Nat → Nat} {b : Nat → Int32} {n : Nat} (h0 : 0 < n) (hn : n ≤ 65536) (ht : ∀ j, j < n → t j < 256 ∧ b j = nI (t j)) (hmc : 1 ≤ mc) (hms : n ≤ ms)
    (hp : ∀ a', sb_Lat t n a' → sb_Fit a' → post (.inl (0, h, z, a', n, b, n))) : wpJ0_init_905df_fc072 post mc ms (c, h, z, b, n) := by
  refine ⟨mc, ms, by omega, by omega, br_f (nI_ne0 h0 (by omega)) ⟨mc, ms, by omega, by omega, nI_pos (by omega), nm_r (nI_clamp (by omega)) ⟨by omega, hmc, by omega, n + 1, ?_⟩⟩⟩
  refine sv_compress hn ht (fun a' hL hf => ?_) n 0 _ (by omega) (fun j hj => absurd hj (Nat.not_lt_zero j)) sb_fit0
  refine br_t rfl ⟨pk_nb _, ?_⟩
  have e1 : (((Int32.ofNat n - Int32.ofNat n).toUInt32 >>> ((31 : Int32).toUInt32 &&& Int32.toUInt32 31)).toInt32).toInt8.toInt32 = 0 := by
    rw [Int32.sub_self]
    decide
  rw [e1]
  exact ⟨by decide, by decide, hp a' hL hf⟩
/-- String.equals of two Strings with the same bytes -/
theorem sv_equals {post : Int32 → Prop} {h z h' z' : Int32} {a a' : Nat → Int32} {n : Nat} (hn : n ≤ 65536) (he : ∀ j, j < n → a j = a' j) (hp : post 1) : wpJ0_equals_9ea2d_d3b40 post (0, h, z, a, n, 0, h', z', a', n) := by
  have L : ∀ (P : Int32 → Prop), P 1 → ∀ (d k : Nat), k + d = n → wJ1_equals_b5fdf_9f0d2_9 P a n a' n (d + 1) (nI k) := by
    intro P h1 d
    induction d with
    | zero =>
      intro k hk
      rw [wJ1_equals_b5fdf_9f0d2_9]
      exact br_t ((nI_leI (by omega) (by omega)).mpr (by omega)) h1
    | succ d ih =>
      intro k hk
      rw [wJ1_equals_b5fdf_9f0d2_9]
      refine br_f (nI_ge (by omega) (by omega)) ⟨vp_in_nI (by omega) (by omega), vp_in_nI (by omega) (by omega), br_t ?_ (nm_r (nI_1 k) (ih (k + 1) (by omega)))⟩
      rw [nI_clamp (by omega)]
      exact he k (by omega)
  exact br_t rfl (br_t rfl ⟨n + 1, L _ (br_f (by decide) hp) n 0 (by omega)⟩)
/-- every literal: its length is its byte list's, every entry is a byte -/
theorem sc_all : ∀ i, i < nJS → (lenJS.getD i 0 = (bytJS.getD i []).length ∧ (bytJS.getD i []).length < 2 ^ 31 ∧ ∀ b ∈ bytJS.getD i [], b.toInt8.toInt32 = b) := by decide +kernel
/-- the char at k -/
def sc_ch (i k : Nat) : Int32 := (bytJS.getD i []).getD k 0 &&& 255
/-- charAt(k) -/
theorem sc_charAt {post : Int32 → Prop} {u : StJ02238} {i k : Nat} (hi : i < nJS) (hk : k < lenJS.getD i 0) (h : post (sc_ch i k)) : wpJ0_charAt_5068e_7076d post u i (nI k) := by
  obtain ⟨hl, hL, -⟩ := sc_all i hi
  have eX : ((((bytJS.getD i []).getD (nI k).toNatClampNeg 0) &&& 255).toUInt32 % 65536).toInt32 = sc_ch i k := by
    rw [nI_clamp (by omega)]
    exact sc_c2 _
  have nX : narrow .char (.int (sc_ch i k)) = .int (sc_ch i k) := sc_nar _
  refine ⟨hi, hi, br_f (by decide) ⟨hi, ?_⟩⟩
  have core : vp_in (nI k) (lenJS.getD i 0) ∧ (narrow .char (.int ((((bytJS.getD i []).getD (nI k).toNatClampNeg 0) &&& 255).toUInt32 % 65536).toInt32) = .int ((((bytJS.getD i []).getD (nI k).toNatClampNeg 0) &&& 255).toUInt32 % 65536).toInt32 ∧ (narrow .char (.int ((((bytJS.getD i []).getD (nI k).toNatClampNeg 0) &&& 255).toUInt32 % 65536).toInt32) = .int ((((bytJS.getD i []).getD (nI k).toNatClampNeg 0) &&& 255).toUInt32 % 65536).toInt32 ∧ post ((((bytJS.getD i []).getD (nI k).toNatClampNeg 0) &&& 255).toUInt32 % 65536).toInt32)) := by
    rw [eX]
    exact ⟨vp_in_nI hk (by omega), nX, nX, h⟩
  exact ⟨br_f (nI_pos (by omega)) (br_t (nI_lt hk (by omega)) core), br_f (nI_pos (by omega)) (br_t (nI_lt hk (by omega)) core)⟩
end
section
/-! ===== members of the JDK that the pasted laws don't cover, and the picture ===== -/
theorem zc_vc {q : Nat} (h : q < 65536) : vp_nar .char (nI q) = nI q := by
  unfold vp_nar
  rw [(pk_charN h).1]
theorem zc_lat {t t' : Nat → Nat} {n : Nat} {a : Nat → Int32} (h : sb_Lat t n a) (e : ∀ j, j < n → t j = t' j) : sb_Lat t' n a := by
  intro j hj
  rw [← e j hj]
  exact h j hj
/-- new String(char[0]) -/
theorem zc_new0 {post : (StJ0f59a ⊕ StJd31f1) → Prop} {mc ms : Nat} {c h z : Int32} {b : Nat → Int32} (hp : post (.inr (0, h, z, b, 0))) : wpJ0_init_905df_fc072 post mc ms (c, h, z, b, 0) :=
  ⟨mc, ms, by omega, by omega, br_t rfl hp⟩
/-- String.checkOffset 0 of n -/
theorem zc_off {post : Unit → Prop} {n : Nat} (hn : n < 2 ^ 31) (hp : post ()) : wpJ0_checkOffset_df160_48e5c post () 0 (nI n) :=
  ⟨br_f (by decide) (br_f (nI_pos hn) (br_t (nI_le (Nat.le_refl n) hn) hp)), br_f (by decide) (br_f (nI_pos hn) (br_t (nI_le (Nat.le_refl n) hn) hp))⟩
/-- AbstractStringBuilder.shift by one from 0 on -/
theorem zc_shift {post : StJ4ec0e → Prop} {ml : Int32} {a : Nat → Int32} {n m : Nat} (h : n + 1 ≤ m) (hm : m ≤ 65536) (hf : sb_Fit a) (hp : post (0, ml, nI n, va_cpy a a 0 1 n, m)) : wpJ5_shift_df160_fc066 post (0, ml, nI n, a, m) 0 1 := by
  have e0 : nI n - 0 = nI n := pk_sub (a := n) (b := 0) (by omega)
  have e1 : ((0 : Int32) + 1).toNatClampNeg = 1 := by decide
  have en : (nI n).toNatClampNeg = n := nI_clamp (by omega)
  refine ⟨by decide, by decide, ?_, ?_, ?_, fun i _ => hf _, nm_r (e' := va_cpy a a 0 1 n) ?_ hp⟩
  · rw [sb_shl0, e0]
    exact nI_pos (by omega)
  · rw [sb_shl0, sb_shl0, e0, en, sb_cl0]
    omega
  · rw [sb_shl0, sb_shl0, e0, en, e1]
    omega
  · rw [sb_shl0, sb_shl0, sb_shl0, e0, en, e1, sb_cl0]
/-- a text with one letter put ahead of it -/
def zc_ins (c : Nat) (t : Nat → Nat) : Nat → Nat := fun j => if j = 0 then c else t (j - 1)
/-- StringBuilder.insert(0, char), a Latin-1 letter c -/
theorem zc_insert {post : StJ4ec0e → Prop} {mc ms : Nat} {ml : Int32} {t : Nat → Nat} {a : Nat → Int32} {n m c : Nat} (hnm : n ≤ m) (hm : m ≤ 65536) (hL : sb_Lat t n a) (hf : sb_Fit a) (hc : c < 256) (hr : sb_Room (n + 1) m mc ms)
    (hp : ∀ a', sb_Lat (zc_ins c t) (n + 1) a' → sb_Fit a' → post (0, ml, nI (n + 1), a', sb_cap (n + 1) m)) : wpJ4_insert_a3ee8_fc066 post mc ms (0, ml, nI n, a, m) 0 (nI c) := by
  have hg := sb_cap_ge (n + 1) m
  have hl := sb_cap_le hm hr
  refine ⟨mc, ms, by omega, by omega, ?_⟩
  rw [wpJ5_insert_00e82_fc066]
  refine zc_off (by omega) ⟨mc, ms, by omega, by omega, ?_⟩
  rw [nI_1]
  refine sb_ensure hm (by omega) hf hr (fun a' hf' hk => ?_)
  refine zc_shift hg hl hf' (nm_r (nI_1 n) (br_t rfl (br_f (by decide) ?_)))
  refine br_f (show ¬ nI 255 < nI c from nI_nlt (by omega) (by decide)) (br_f (by decide) ?_)
  refine ⟨vp_in_nI (n := 0) (by omega) (by omega), nm_r (e' := upd (va_cpy a' a' 0 1 n) 0 (sb_b c)) (by rw [sb_cl0, pk_vb]; rfl) ?_⟩
  refine hp _ (fun j hj => ?_) (sb_fitU (sb_fitC hf' hf') (sb_fitB c))
  by_cases e : j = 0
  · rw [show zc_ins c t j = c from if_pos e, e]
    exact ⟨hc, pk_us⟩
  · rw [show zc_ins c t j = t (j - 1) from if_neg e, pk_un e, pk_cpy_in (by omega) (by omega), show 0 + (j - 1) = j - 1 by omega, hk (j - 1) (by omega)]
    exact hL (j - 1) (by omega)
/-- new StringBuilder(String), a Latin-1 text of n letters -/
theorem zc_initS {post : StJ9c5ae → Prop} {mc ms : Nat} {h z : Int32} {t : Nat → Nat} {b : Nat → Int32} {n : Nat} (hn : n ≤ 1000) (hb : sb_Lat t n b) (hfb : sb_Fit b) (hmc : 1 ≤ mc) (hms : n + 16 ≤ ms)
    (hp : ∀ a', sb_Lat t n a' → sb_Fit a' → post (0, 0, nI n, a', n + 16, 0, h, z, b, n)) : wpJ4_init_a7421_2125b post mc ms (0, 0, 0, 0, h, z, b, n) := by
  have e : nI n + 16 = nI (n + 16) := nI_add n 16
  refine ⟨mc, ms, by omega, by omega, ?_⟩
  rw [wpJ5_init_a7421_2125b]
  refine sv_length (br_f (show ¬ nI 2147483631 ≤ nI n from nI_ge (by omega) (by decide)) ?_)
  refine ⟨by decide, by decide, by decide, br_t rfl ⟨by rw [e]; exact nI_pos (by omega), nm_r (e' := n + 16) (by rw [e]; exact nI_clamp (by omega)) ⟨by omega, by omega, by omega, ?_⟩⟩⟩
  refine ⟨mc - 1, ms - (n + 16), by omega, by omega, mc - 1, ms - (n + 16), by omega, by omega, ?_⟩
  refine sb_appendStr (t := fun _ => 0) (n := 0) (by omega) (by omega) (fun j hj => absurd hj (Nat.not_lt_zero j)) sb_fit0 (by omega) hb hfb (Or.inl (by omega)) (fun a' hL hf => ?_)
  show post (0, 0, nI (0 + n), a', sb_cap (0 + n) (n + 16), 0, h, z, b, n)
  rw [show 0 + n = n from Nat.zero_add n, show sb_cap n (n + 16) = n + 16 from if_pos (by omega)]
  refine hp a' (fun j hj => ?_) hf
  have h9 := hL j (by omega)
  rw [show sb_cat (fun _ => 0) 0 t j = t j from if_neg (Nat.not_lt_zero j)] at h9
  exact h9
/-- length of the String whose bytes are those of "" -/
theorem zc_len0 {post : Int32 → Prop} {h z : Int32} (hp : post (nI 0)) : wpJ0_length_8abf5_fa096 post (0, h, z) :=
  ⟨by decide, Eq.mpr (congrArg post (sb_shr0 (Int32.ofNat (lenJS.getD 1 0)))) hp⟩
/-- new StringBuilder(""), the bytes of String constant 1 -/
theorem zc_init0 {post : StJ04d0a → Prop} {mc ms : Nat} {h z : Int32} (hmc : 1 ≤ mc) (hms : 16 ≤ ms)
    (hp : ∀ a', sb_Fit a' → post (0, 0, nI 0, a', 16, 0, h, z)) : wpJ4_init_a7421_dedde post mc ms (0, 0, 0, 0, h, z) := by
  refine ⟨mc, ms, by omega, by omega, ?_⟩
  rw [wpJ5_init_a7421_dedde]
  refine zc_len0 (br_f (by decide) ?_)
  refine ⟨by decide, by decide, by decide, br_t rfl ⟨by decide, nm_r (e' := 16) (by decide) ⟨by omega, by omega, by omega, ?_⟩⟩⟩
  refine ⟨mc - 1, ms - 16, by omega, by omega, mc - 1, ms - 16, by omega, by omega, mc - 1, ms - 16, by omega, by omega, ?_⟩
  rw [wpJ5_append_cf1ce_2cee4]
  refine zc_len0 ⟨0, 0, by omega, by omega, ?_⟩
  rw [show (0 : Int32) + nI 0 = nI 0 from by decide]
  refine sb_ensure (by omega) (by omega) sb_fit0 (Or.inl (by omega)) (fun a' hf' hk => ?_)
  have ez : (Int32.ofNat (lenJS.getD 1 0)).toNatClampNeg = 0 := by decide
  refine ⟨0, 0, by omega, by omega, 0, 0, by omega, by omega, by decide, br_t rfl ⟨by decide, br_t rfl ?_⟩⟩
  refine ⟨by decide, by decide, by decide, by decide, by decide, fun i hi => absurd hi (by rw [ez]; exact Nat.not_lt_zero i), nm_e (nm_r (e' := nI 0) (by decide) ?_)⟩
  refine hp _ (sb_fitC (fun j => ?_) hf')
  show fits .byte (.int 0) = true
  decide
/-- equals with the String whose bytes are those of "" -/
theorem zc_eq0 {post : Int32 → Prop} {h z h' z' : Int32} {a : Nat → Int32} (hp : post 1) : wpJ0_equals_9ea2d_a52eb post (0, h, z, a, 0, 0, h', z') := by
  refine br_t rfl ⟨by decide, br_t rfl ⟨0 + 1, ?_⟩⟩
  rw [wJ1_equals_b5fdf_8bd75_9]
  exact br_t (nI_le (Nat.le_refl 0) (by decide)) (br_f (by decide) hp)
/-! ===== the picture: n letters t, k dashes set around them, the first behind, then ahead, in turn ===== -/
def zc_cx (t : Nat → Nat) (n k : Nat) : Nat → Nat := fun j => if k / 2 ≤ j ∧ j < k / 2 + n then t (j - k / 2) else 45
theorem zc_cx_in {t : Nat → Nat} {n k j : Nat} (h : k / 2 ≤ j ∧ j < k / 2 + n) : zc_cx t n k j = t (j - k / 2) := if_pos h
theorem zc_cx_out {t : Nat → Nat} {n k j : Nat} (h : ¬ (k / 2 ≤ j ∧ j < k / 2 + n)) : zc_cx t n k j = 45 := if_neg h
theorem zc_cx_0 {t : Nat → Nat} {n j : Nat} (h : j < n) : t j = zc_cx t n 0 j := by
  rw [zc_cx_in (by omega)]
  rfl
theorem zc_cx_app {t : Nat → Nat} {n k j : Nat} (hk : k % 2 = 0) (hj : j < n + k + 1) : sb_cat (zc_cx t n k) (n + k) (fun _ => 45) j = zc_cx t n (k + 1) j := by
  have e : (k + 1) / 2 = k / 2 := by omega
  by_cases h : j < n + k
  · rw [sb_cat_lo h]
    unfold zc_cx
    rw [e]
  · rw [show sb_cat (zc_cx t n k) (n + k) (fun _ => 45) j = 45 from if_neg h, zc_cx_out (by omega)]
theorem zc_cx_ins {t : Nat → Nat} {n k j : Nat} (hk : k % 2 = 1) : zc_ins 45 (zc_cx t n k) j = zc_cx t n (k + 1) j := by
  by_cases h : j = 0
  · rw [show zc_ins 45 (zc_cx t n k) j = 45 from if_pos h, zc_cx_out (by omega)]
  · rw [show zc_ins 45 (zc_cx t n k) j = zc_cx t n k (j - 1) from if_neg h]
    by_cases g : k / 2 ≤ j - 1 ∧ j - 1 < k / 2 + n
    · rw [zc_cx_in g, zc_cx_in (by omega)]
      exact congrArg t (by omega)
    · rw [zc_cx_out g, zc_cx_out (by omega)]
theorem zc_cx_lt {t : Nat → Nat} {n k : Nat} (h : ∀ j, j < n → t j < 256) (j : Nat) : zc_cx t n k j < 256 := by
  by_cases g : k / 2 ≤ j ∧ j < k / 2 + n
  · rw [zc_cx_in g]
    exact h _ (by omega)
  · rw [zc_cx_out g]
    omega
theorem zc_put {T : Nat → Nat} {c : Nat → Int32} {p : Nat} (hm : ∀ j, j < p → c j = nI (T j)) : ∀ j, j < p + 1 → upd c p (nI (T p)) j = nI (T j) := by
  intro j hj
  by_cases h : j = p
  · subst h
    exact pk_us
  · rw [pk_un h]
    exact hm j (by omega)
theorem zc_W : ∀ j, j < 16 → ∀ q, q < 32 → (nI j - 4 ≤ nI q ↔ j - 4 ≤ q) := by decide +kernel
theorem zc_V : ∀ j, j < 16 → ∀ q, q < 8 → (0 < nI j - 4 - nI q ↔ q < j - 4) := by decide +kernel
end
section
/-! ===== text(bits, size): a String of at most 7 Latin-1 letters; none: the bytes of "" ===== -/
theorem zc_tl {post : (St1 ⊕ St2) → Prop} {x : Int32} {n : Nat} (hn : n ≤ 7) (h1 : ∀ (n : Nat) (t : Nat → Nat) (a : Nat → Int32), 0 < n → n ≤ 7 → sb_Lat t n a → sb_Fit a → post (.inl (0, 0, 0, a, n))) (h2 : post (.inr (0, 0, 0))) :
    ∀ (d i : Nat) (c : Nat → Int32), i + d = n → (∀ j, j < i → ∃ q, q < 256 ∧ c j = nI q) → wL_text_13 post 3 18 x 0 1 (0 + n) n (d + 1) (nI i) c := by
  intro d
  induction d with
  | zero =>
    intro i c hi hc
    obtain rfl : i = n := by omega
    rw [wL_text_13]
    refine br_t ((nI_leI (by omega) (by omega)).mpr (by omega)) ⟨by omega, by omega, 1, i, by omega, by omega, ?_⟩
    rcases Nat.eq_zero_or_pos i with e | e
    · subst e
      exact zc_new0 h2
    · refine sv_new (t := fun j => (c j).toNatClampNeg) e (by omega) (fun j hj => ?_) (by omega) (by omega) (fun a' hL hf => h1 i _ a' e hn hL hf)
      obtain ⟨q, hq, eq⟩ := hc j hj
      show (c j).toNatClampNeg < 256 ∧ c j = nI (c j).toNatClampNeg
      rw [eq, nI_clamp (by omega)]
      exact ⟨hq, rfl⟩
  | succ d ih =>
    intro i c hi hc
    obtain ⟨k, hk, ek⟩ := pk_andE ((x.toUInt32 >>> ((3 * nI i).toUInt32 &&& Int32.toUInt32 31)).toInt32) (m := 7) 3 (by decide)
    obtain ⟨q, hq, eq⟩ := pk_andE ((bytJS.getD 0 []).getD k 0) (m := 255) 8 (by decide)
    rw [wL_text_13]
    refine br_f (nI_ge (by omega) (by omega)) ⟨by decide, ?_⟩
    rw [ek]
    refine sc_charAt (by decide) (show k < 8 from hk) ⟨vp_in_nI (by omega) (by omega), ?_⟩
    refine nm_r (e' := upd c i (nI q)) (by rw [nI_clamp (by omega), show sc_ch 0 k = nI q from eq, zc_vc (by omega)]) (nm_r (nI_1 i) (ih (i + 1) _ (by omega) (fun j hj => ?_)))
    by_cases e : j = i
    · exact ⟨q, hq, by rw [e]; exact pk_us⟩
    · rw [pk_un e]
      exact hc j (by omega)
theorem zc_text {post : (St1 ⊕ St2) → Prop} {x y : Int32} (h1 : ∀ (n : Nat) (t : Nat → Nat) (a : Nat → Int32), 0 < n → n ≤ 7 → sb_Lat t n a → sb_Fit a → post (.inl (0, 0, 0, a, n))) (h2 : post (.inr (0, 0, 0))) : wpL_text post 3 18 () x y := by
  obtain ⟨n, hn, en⟩ := pk_andE y (m := 7) 3 (by decide)
  refine ⟨by rw [en]; exact nI_pos (by omega), nm_r (e' := n) (by rw [en]; exact nI_clamp (by omega)) ⟨by omega, by omega, by omega, n + 1, ?_⟩⟩
  exact zc_tl (by omega) h1 h2 n 0 _ (by omega) (fun j hj => absurd hj (Nat.not_lt_zero j))
end
section
/-! ===== WritingTasks.centred: dashes in turn behind and ahead ===== -/
theorem zc_x0 {post : St3 → Prop} {mc ms : Nat} {W h z ml : Int32} {b : Nat → Int32} {t : Nat → Nat} {n w m kc ks : Nat} (hW : ∀ q, q < 32 → (W ≤ nI q ↔ w ≤ q)) (hn : n ≤ 7) (hw : w ≤ 11) (hm : n + (w - n) ≤ m) (hm2 : m ≤ 1000) (hkc : kc + 2 ≤ mc) (hks : ks + 22 ≤ ms)
    (hp : ∀ a', sb_Lat (zc_cx t n (w - n)) (n + (w - n)) a' → sb_Fit a' → post (0, h, z, b, n, 0, 0, 0, a', n + (w - n))) :
    ∀ (d k : Nat) (a : Nat → Int32), k + d = w - n → sb_Lat (zc_cx t n k) (n + k) a → sb_Fit a → wX0_centred_11 post mc ms W (d + 1) (nI (k % 2)) kc ks 0 h z b n 0 ml (nI (n + k)) a m := by
  intro d
  induction d with
  | zero =>
    intro k a hk hL hf
    obtain rfl : k = w - n := by omega
    rw [wX0_centred_11]
    refine br_t ((hW _ (by omega)).mpr (by omega)) ⟨2, n + (w - n) + 4, by omega, by omega, ?_⟩
    exact sb_toString (by omega) (by omega) hL hf (by omega) (by omega) (fun a' hL' hf' => hp a' hL' hf')
  | succ d ih =>
    intro k a hk hL hf
    have hc : ¬ W ≤ nI (n + k) := fun c => by
      have := (hW (n + k) (by omega)).mp c
      omega
    have ec : sb_cap (n + k + 1) m = m := if_pos (by omega)
    rw [wX0_centred_11]
    refine br_f hc ?_
    rcases Nat.mod_two_eq_zero_or_one k with e | e
    · have h0 : nI (k % 2) = 0 := (congrArg nI e).trans nI_0
      refine br_t h0 ⟨0, 0, by omega, by omega, ?_⟩
      refine sb_appendChar (c := 45) (by omega) (by omega) hL hf (by omega) (Or.inl (by omega)) (fun a' hL' hf' => ?_)
      have h9 := ih (k + 1) a' (by omega) (zc_lat hL' (fun j hj => zc_cx_app e hj)) hf'
      rw [show (k + 1) % 2 = 1 by omega] at h9
      rw [ec]
      exact br_t h0 h9
    · have h1 : ¬ nI (k % 2) = 0 := by
        rw [e]
        decide
      refine br_f h1 ⟨0, 0, by omega, by omega, ?_⟩
      refine zc_insert (c := 45) (by omega) (by omega) hL hf (by omega) (Or.inl (by omega)) (fun a' hL' hf' => ?_)
      have h9 := ih (k + 1) a' (by omega) (zc_lat hL' (fun j hj => zc_cx_ins e)) hf'
      rw [show (k + 1) % 2 = 0 by omega] at h9
      rw [ec]
      exact br_f h1 h9
theorem zc_X0 {post : St3 → Prop} {mc ms : Nat} {W h z : Int32} {b : Nat → Int32} {t : Nat → Nat} {n w : Nat} (hW : ∀ q, q < 32 → (W ≤ nI q ↔ w ≤ q)) (hn : n ≤ 7) (hw : w ≤ 11) (hb : sb_Lat t n b) (hfb : sb_Fit b) (hmc : 4 ≤ mc) (hms : 60 ≤ ms)
    (hp : ∀ a', sb_Lat (zc_cx t n (w - n)) (n + (w - n)) a' → sb_Fit a' → post (0, h, z, b, n, 0, 0, 0, a', n + (w - n))) : wpX0_centred post mc ms (0, h, z, b, n) W := by
  refine ⟨by omega, by omega, 1, n + 16, by omega, by omega, ?_⟩
  refine zc_initS (by omega) hb hfb (by omega) (by omega) (fun a' hL hf => ⟨w - n + 1, ?_⟩)
  exact zc_x0 hW hn hw (by omega) (by omega) (by omega) (by omega) hp (w - n) 0 a' (by omega) (zc_lat hL (fun j hj => zc_cx_0 hj)) hf
theorem zc_y0 {post : St5 → Prop} {mc ms : Nat} {W h z ml : Int32} {t : Nat → Nat} {w m kc ks : Nat} (hW : ∀ q, q < 32 → (W ≤ nI q ↔ w ≤ q)) (hw : w ≤ 11) (hm : w ≤ m) (hm2 : m ≤ 1000) (hkc : kc + 2 ≤ mc) (hks : ks + 22 ≤ ms)
    (hp : ∀ a', sb_Lat (zc_cx t 0 w) w a' → sb_Fit a' → post (0, h, z, 0, 0, 0, a', w)) :
    ∀ (d k : Nat) (a : Nat → Int32), k + d = w → sb_Lat (zc_cx t 0 k) k a → sb_Fit a → wX0_centred_2_11 post mc ms W (d + 1) (nI (k % 2)) kc ks 0 h z 0 ml (nI k) a m := by
  intro d
  induction d with
  | zero =>
    intro k a hk hL hf
    obtain rfl : k = w := by omega
    rw [wX0_centred_2_11]
    refine br_t ((hW _ (by omega)).mpr (by omega)) ⟨2, k + 4, by omega, by omega, ?_⟩
    exact sb_toString (by omega) (by omega) hL hf (by omega) (by omega) (fun a' hL' hf' => hp a' hL' hf')
  | succ d ih =>
    intro k a hk hL hf
    have hc : ¬ W ≤ nI k := fun c => by
      have := (hW k (by omega)).mp c
      omega
    have ec : sb_cap (k + 1) m = m := if_pos (by omega)
    rw [wX0_centred_2_11]
    refine br_f hc ?_
    rcases Nat.mod_two_eq_zero_or_one k with e | e
    · have h0 : nI (k % 2) = 0 := (congrArg nI e).trans nI_0
      refine br_t h0 ⟨0, 0, by omega, by omega, ?_⟩
      refine sb_appendChar (c := 45) (by omega) (by omega) hL hf (by omega) (Or.inl (by omega)) (fun a' hL' hf' => ?_)
      have h9 := ih (k + 1) a' (by omega) (zc_lat hL' (fun j hj => by
        have h8 := zc_cx_app (t := t) (n := 0) (j := j) e (by omega)
        rw [Nat.zero_add] at h8
        exact h8)) hf'
      rw [show (k + 1) % 2 = 1 by omega] at h9
      rw [ec]
      exact br_t h0 h9
    · have h1 : ¬ nI (k % 2) = 0 := by
        rw [e]
        decide
      refine br_f h1 ⟨0, 0, by omega, by omega, ?_⟩
      refine zc_insert (c := 45) (by omega) (by omega) hL hf (by omega) (Or.inl (by omega)) (fun a' hL' hf' => ?_)
      have h9 := ih (k + 1) a' (by omega) (zc_lat hL' (fun j hj => zc_cx_ins e)) hf'
      rw [show (k + 1) % 2 = 0 by omega] at h9
      rw [ec]
      exact br_f h1 h9
theorem zc_Y0 {post : St5 → Prop} {mc ms : Nat} {W h z : Int32} {t : Nat → Nat} {w : Nat} (hW : ∀ q, q < 32 → (W ≤ nI q ↔ w ≤ q)) (hw : w ≤ 11) (hmc : 4 ≤ mc) (hms : 60 ≤ ms)
    (hp : ∀ a', sb_Lat (zc_cx t 0 w) w a' → sb_Fit a' → post (0, h, z, 0, 0, 0, a', w)) : wpX0_centred_2 post mc ms (0, h, z) W := by
  refine ⟨by omega, by omega, 1, 16, by omega, by omega, ?_⟩
  refine zc_init0 (by omega) (by omega) (fun a' hf => ⟨w + 1, ?_⟩)
  exact zc_y0 hW hw (by omega) (by omega) (by omega) (by omega) hp w 0 a' (by omega) (fun j hj => absurd hj (Nat.not_lt_zero j)) hf
end
section
/-! ===== WritingTasksPlain.centred: the front counted, then the line filled ===== -/
theorem zc_x1 {post : (St3 ⊕ St4 ⊕ St1) → Prop} {mc ms : Nat} {h z : Int32} {b : Nat → Int32} {t : Nat → Nat} {n w F kc ks : Nat} (hF : F = (w - n) / 2) (hn : n ≤ 7) (h1 : n < w) (hw : w ≤ 11) (hb : sb_Lat t n b) (hkc : kc + 2 ≤ mc) (hks : ks + 4 + w ≤ ms)
    (hp : ∀ a', sb_Lat (zc_cx t n (w - n)) w a' → sb_Fit a' → post (.inl (0, h, z, b, n, 0, 0, 0, a', w))) :
    ∀ (d i : Nat) (c : Nat → Int32), i + d = w → (∀ j, j < i → c j = nI (zc_cx t n (w - n) j)) → wX1_centred_38 post mc ms (nI w) (nI F) kc ks 0 h z n w (d + 1) (nI i) b c := by
  intro d
  induction d with
  | zero =>
    intro i c hi hc
    obtain rfl : i = w := by omega
    rw [wX1_centred_38]
    refine br_t ((nI_leI (by omega) (by omega)).mpr (by omega)) ⟨by omega, by omega, 1, i, by omega, by omega, ?_⟩
    exact sv_new (t := zc_cx t n (i - n)) (by omega) (by omega) (fun j hj => ⟨zc_cx_lt (fun j hj => (hb j hj).1) j, hc j hj⟩) (by omega) (by omega) (fun a' hL hf => hp a' hL hf)
  | succ d ih =>
    intro i c hi hc
    have hx := ih (i + 1) _ (by omega) (zc_put hc)
    have D : ¬ (F ≤ i ∧ i < F + n) → wX1_centred_65 post mc ms (wX1_centred_38 post mc ms (nI w) (nI F) kc ks 0 h z n w (d + 1)) (nI w) (nI F) (nI i) kc ks 0 h z b n c w := by
      intro g
      have e9 : zc_cx t n (w - n) i = 45 := zc_cx_out (by rw [← hF]; exact g)
      exact br_t rfl ⟨vp_in_nI (by omega) (by omega), nm_r (e' := upd c i (nI (zc_cx t n (w - n) i))) (by rw [nI_clamp (by omega), e9]; rfl) (nm_r (nI_1 i) hx)⟩
    have E : F ≤ i → i < F + n → wX1_centred_66 post mc ms (wX1_centred_38 post mc ms (nI w) (nI F) kc ks 0 h z n w (d + 1)) (nI w) (nI F) (nI i) 1 kc ks 0 h z b n c w := by
      intro g g2
      have e9 : zc_cx t n (w - n) i = t (i - F) := by
        rw [zc_cx_in (by rw [← hF]; exact ⟨g, g2⟩), ← hF]
      have e8 := (hb (i - F) (by omega)).1
      refine br_f (by decide) ?_
      rw [pk_sub g]
      exact sv_charAt (by omega) hb (by omega) ⟨vp_in_nI (by omega) (by omega), nm_r (e' := upd c i (nI (zc_cx t n (w - n) i))) (by rw [nI_clamp (by omega), e9, zc_vc (by omega)]) (nm_r (nI_1 i) hx)⟩
    rw [wX1_centred_38]
    refine br_f (nI_ge (by omega) (by omega)) (pk_lt i F (fun g => D (by omega)) (fun g => ?_))
    exact sv_length (pk_le (F + n) i (fun g2 => D (by omega)) (fun g2 => E g g2) (nI_add F n))
theorem zc_f1 {post : (St3 ⊕ St4 ⊕ St1) → Prop} {mc ms : Nat} {h z : Int32} {b : Nat → Int32} {t : Nat → Nat} {n w kc ks : Nat} (hn : n ≤ 7) (h1 : n < w) (hw : w ≤ 11) (hb : sb_Lat t n b) (hkc : kc + 3 ≤ mc) (hks : ks + 4 + 2 * w ≤ ms)
    (hp : ∀ a', sb_Lat (zc_cx t n (w - n)) w a' → sb_Fit a' → post (.inl (0, h, z, b, n, 0, 0, 0, a', w))) :
    ∀ (d k : Nat), k + d = (w - n) / 2 → wX1_centred_15 post mc ms (nI w) (nI (w - n)) kc ks 0 h z b n (d + 1) (nI k) := by
  intro d
  induction d with
  | zero =>
    intro k hk
    have e : nI k + nI k + 2 = nI (k + k + 2) := by
      rw [nI_add]
      exact nI_add (k + k) 2
    rw [wX1_centred_15]
    refine br_t (by rw [e]; exact nI_lt (by omega) (by omega)) ⟨nI_pos (by omega), nm_r (nI_clamp (by omega)) ⟨by omega, by omega, by omega, w + 1, ?_⟩⟩
    exact zc_x1 (by omega) hn h1 hw hb (by omega) (by omega) hp w 0 _ (by omega) (fun j hj => absurd hj (Nat.not_lt_zero j))
  | succ d ih =>
    intro k hk
    have e : nI k + nI k + 2 = nI (k + k + 2) := by
      rw [nI_add]
      exact nI_add (k + k) 2
    rw [wX1_centred_15]
    exact br_f (by rw [e]; exact nI_nlt (by omega) (by omega)) (nm_r (nI_1 k) (ih (k + 1) (by omega)))
theorem zc_X1 {post : (St3 ⊕ St4 ⊕ St1) → Prop} {mc ms : Nat} {W h z : Int32} {b : Nat → Int32} {t : Nat → Nat} {n w : Nat} (hV : 0 < W - nI n ↔ n < w) (hE : n < w → W = nI w) (hn : n ≤ 7) (hw : w ≤ 11) (hb : sb_Lat t n b) (hmc : 3 ≤ mc) (hms : 26 ≤ ms)
    (hp : n < w → ∀ a', sb_Lat (zc_cx t n (w - n)) w a' → sb_Fit a' → post (.inl (0, h, z, b, n, 0, 0, 0, a', w))) (hq : w ≤ n → post (.inr (.inr (0, h, z, b, n)))) : wpX1_centred post mc ms (0, h, z, b, n) W := by
  rw [wpX1_centred]
  refine sv_length (nm_e ?_)
  by_cases g : n < w
  · refine br_t (hV.mpr g) ⟨(w - n) / 2 + 1, ?_⟩
    rw [hE g, pk_sub (by omega)]
    exact zc_f1 hn g hw hb (by omega) (by omega) (hp g) ((w - n) / 2) 0 (by omega)
  · have gc : ¬ 0 < W - nI n := fun c => g (hV.mp c)
    exact br_f gc (hq (by omega))
/-! ===== the same over "" ===== -/
theorem zc_y1 {post : (St5 ⊕ St6 ⊕ St2) → Prop} {mc ms : Nat} {h z : Int32} {t : Nat → Nat} {w F kc ks : Nat} (h1 : 0 < w) (hw : w ≤ 11) (hFw : F ≤ w) (hkc : kc + 2 ≤ mc) (hks : ks + 4 + w ≤ ms)
    (hp : ∀ a', sb_Lat (zc_cx t 0 w) w a' → sb_Fit a' → post (.inl (0, h, z, 0, 0, 0, a', w))) :
    ∀ (d i : Nat) (c : Nat → Int32), i + d = w → (∀ j, j < i → c j = nI (zc_cx t 0 w j)) → wX1_centred_2_38 post mc ms (nI w) (nI F) kc ks 0 h z w (d + 1) (nI i) c := by
  intro d
  induction d with
  | zero =>
    intro i c hi hc
    obtain rfl : i = w := by omega
    rw [wX1_centred_2_38]
    refine br_t ((nI_leI (by omega) (by omega)).mpr (by omega)) ⟨by omega, by omega, 1, i, by omega, by omega, ?_⟩
    exact sv_new (t := zc_cx t 0 i) (by omega) (by omega) (fun j hj => ⟨zc_cx_lt (fun j hj => absurd hj (Nat.not_lt_zero j)) j, hc j hj⟩) (by omega) (by omega) (fun a' hL hf => hp a' hL hf)
  | succ d ih =>
    intro i c hi hc
    have hx := ih (i + 1) _ (by omega) (zc_put hc)
    have D : wX1_centred_2_65 post mc ms (wX1_centred_2_38 post mc ms (nI w) (nI F) kc ks 0 h z w (d + 1)) (nI w) (nI F) (nI i) kc ks 0 h z c w := by
      have e9 : zc_cx t 0 w i = 45 := zc_cx_out (by omega)
      exact br_t rfl ⟨vp_in_nI (by omega) (by omega), nm_r (e' := upd c i (nI (zc_cx t 0 w i))) (by rw [nI_clamp (by omega), e9]; rfl) (nm_r (nI_1 i) hx)⟩
    rw [wX1_centred_2_38]
    refine br_f (nI_ge (by omega) (by omega)) (pk_lt i F (fun g => D) (fun g => ?_))
    exact zc_len0 (pk_le (F + 0) i (fun g2 => D) (fun g2 => absurd g2 (by omega)) (nI_add F 0))
theorem zc_f2 {post : (St5 ⊕ St6 ⊕ St2) → Prop} {mc ms : Nat} {h z : Int32} {t : Nat → Nat} {w kc ks : Nat} (h1 : 0 < w) (hw : w ≤ 11) (hkc : kc + 3 ≤ mc) (hks : ks + 4 + 2 * w ≤ ms)
    (hp : ∀ a', sb_Lat (zc_cx t 0 w) w a' → sb_Fit a' → post (.inl (0, h, z, 0, 0, 0, a', w))) :
    ∀ (d k : Nat), k + d = w / 2 → wX1_centred_2_15 post mc ms (nI w) (nI w) kc ks 0 h z (d + 1) (nI k) := by
  intro d
  induction d with
  | zero =>
    intro k hk
    have e : nI k + nI k + 2 = nI (k + k + 2) := by
      rw [nI_add]
      exact nI_add (k + k) 2
    rw [wX1_centred_2_15]
    refine br_t (by rw [e]; exact nI_lt (by omega) (by omega)) ⟨nI_pos (by omega), nm_r (nI_clamp (by omega)) ⟨by omega, by omega, by omega, w + 1, ?_⟩⟩
    exact zc_y1 h1 hw (by omega) (by omega) (by omega) hp w 0 _ (by omega) (fun j hj => absurd hj (Nat.not_lt_zero j))
  | succ d ih =>
    intro k hk
    have e : nI k + nI k + 2 = nI (k + k + 2) := by
      rw [nI_add]
      exact nI_add (k + k) 2
    rw [wX1_centred_2_15]
    exact br_f (by rw [e]; exact nI_nlt (by omega) (by omega)) (nm_r (nI_1 k) (ih (k + 1) (by omega)))
theorem zc_Y1 {post : (St5 ⊕ St6 ⊕ St2) → Prop} {mc ms : Nat} {W h z : Int32} {t : Nat → Nat} {w : Nat} (hV : 0 < W - nI 0 ↔ 0 < w) (hE : 0 < w → W = nI w) (hw : w ≤ 11) (hmc : 3 ≤ mc) (hms : 26 ≤ ms)
    (hp : 0 < w → ∀ a', sb_Lat (zc_cx t 0 w) w a' → sb_Fit a' → post (.inl (0, h, z, 0, 0, 0, a', w))) (hq : w = 0 → post (.inr (.inr (0, h, z)))) : wpX1_centred_2 post mc ms (0, h, z) W := by
  rw [wpX1_centred_2]
  refine zc_len0 (nm_e ?_)
  by_cases g : 0 < w
  · refine br_t (hV.mpr g) ⟨w / 2 + 1, ?_⟩
    rw [hE g, pk_sub (by omega)]
    exact zc_f2 g hw (by omega) (by omega) (hp g) (w / 2) 0 (by omega)
  · have gc : ¬ 0 < W - nI 0 := fun c => g (hV.mp c)
    exact br_f gc (hq (by omega))
end
section
/-! ===== the law ===== -/
theorem zc_lawOf {post : Int32 → St0 → Prop} {x y v : Int32} (hp : post 1 ()) : wpL_lawOf post 19 296 () x y v := by
  obtain ⟨j, hj, ej⟩ := pk_andE v (m := 15) 4 (by decide)
  have hj' : j < 16 := hj
  have hW := zc_W j hj'
  have hN : narrow .boolean (.int (1 : Int32)) = .int 1 ∧ post 1 () := ⟨by decide, hp⟩
  refine ⟨3, 18, by omega, by omega, zc_text (fun n t a h0 hn hL hf => nm_r (e' := nI j - 4) (by rw [ej]) ?_) (nm_r (e' := nI j - 4) (by rw [ej]) ?_)⟩
  · refine ⟨4, 60, by omega, by omega, zc_X0 hW hn (by omega) hL hf (by omega) (by omega) (fun a' hL' hf' => ?_)⟩
    refine ⟨3, 26, by omega, by omega, zc_X1 (zc_V j hj' n (by omega)) (fun g => pk_sub (a := j) (b := 4) (by omega)) hn (by omega) hL (by omega) (by omega) (fun g c hc hfc => ?_) (fun g => ?_)⟩
    · have e : n + (j - 4 - n) = j - 4 := by omega
      rw [e] at hL' ⊢
      exact sv_equals (by omega) (fun i hi => (hL' i hi).2.trans (hc i hi).2.symm) hN
    · have e : n + (j - 4 - n) = n := by omega
      have e0 : j - 4 - n = 0 := by omega
      rw [e] at hL' ⊢
      rw [e0] at hL'
      refine sv_equals (by omega) (fun i hi => ?_) hN
      rw [(hL' i hi).2, (hL i hi).2, ← zc_cx_0 hi]
  · refine ⟨4, 60, by omega, by omega, zc_Y0 (t := fun _ => 0) hW (by omega) (by omega) (by omega) (fun a' hL' hf' => ?_)⟩
    refine ⟨3, 26, by omega, by omega, zc_Y1 (t := fun _ => 0) (zc_V j hj' 0 (by omega)) (fun g => pk_sub (a := j) (b := 4) (by omega)) (by omega) (by omega) (by omega) (fun g c hc hfc => ?_) (fun g => ?_)⟩
    · exact sv_equals (by omega) (fun i hi => (hL' i hi).2.trans (hc i hi).2.symm) hN
    · rw [g]
      exact zc_eq0 hN
theorem zc_cell {post : Int32 → Prop} {L : Nat} {xs : Nat → Int32} {i : Nat} (hL : L ≤ 3) (hi : i < 3) (hp : ∀ x, post x) : wpL_cellAt post L xs () (nI i) :=
  pk_le L i (fun _ => hp _) (fun g => ⟨vp_in_nI g (by omega), hp _⟩)
theorem i_vc (xs : Nat → Int32) (L : Nat) (hL : L ≤ 3) : wpL_law (fun r => r = 1) L xs :=
  zc_cell (i := 0) hL (by omega) (fun _ => zc_cell (i := 1) hL (by omega) (fun _ => zc_cell (i := 2) hL (by omega) (fun _ => ⟨19, 296, by omega, by omega, zc_lawOf rfl⟩)))
end
