section
/-! the JDK members that this law reaches: rows of the starting texts STRINGBUILDER-LAWS and STRING-CONSTANT-LAWS; sv_new turned to a post over two worlds -/
theorem sv_length {post : Int32 → Prop} {h z : Int32} {a : Nat → Int32} {n : Nat} (hp : post (nI n)) : wpJ0_length_8abf5_6a20e post (0, h, z, a, n) :=
  ⟨by decide, Eq.mpr (congrArg post (sb_shr0 (Int32.ofNat n))) hp⟩
theorem sb_copyOf {post : StJefc9b → Prop} {mc ms : Nat} {a : Nat → Int32} {m q : Nat} (h : m < q) (hq : q ≤ 65536) (hf : sb_Fit a) (hmc : 1 ≤ mc) (hms : q ≤ ms)
    (hp : post (a, m, va_cpy a (fun _ => 0) 0 0 m, q)) : wpJ7_copyOf_9075b_9260e post mc ms (a, m) (nI q) := by
  have ei : (if nI q < Int32.ofNat m then nI q else Int32.ofNat m) = nI m := if_neg (nI_nlt (by omega) (by omega))
  have ec : (nI m).toNatClampNeg = m := nI_clamp (by omega)
  refine br_f (fun z => by have := (nI_eq (by omega) (by omega)).mp (show nI q = nI m from z); omega) ⟨nI_pos (by omega), nm_r (nI_clamp (by omega)) ⟨by omega, hmc, by omega, ?_⟩⟩
  rw [ei, ec, sb_cl0]
  exact ⟨by decide, by decide, nI_pos (by omega), by omega, by omega, fun i _ => hf _, nm_e hp⟩
/-- AbstractStringBuilder.ensureCapacityInternal, of Latin-1 bytes -/
theorem sb_ensure {post : StJ4ec0e → Prop} {mc ms : Nat} {ml z : Int32} {a : Nat → Int32} {m q : Nat} (hm : m ≤ 65536) (hq : q < 2 ^ 28) (hf : sb_Fit a) (hr : sb_Room q m mc ms)
    (hp : ∀ a', sb_Fit a' → (∀ j, j < m → a' j = a j) → post (0, ml, z, a', sb_cap q m)) : wpJ5_ensureCapacityInternal_d00df_b0715 post mc ms (0, ml, z, a, m) (nI q) := by
  have e1 : (nI q - Int32.ofNat m).toInt = (q : Int) - m := pk_sub_toInt (by omega) (by omega)
  refine nm_r (sb_shr0 (Int32.ofNat m)) ?_
  by_cases h : q ≤ m
  · refine br_t (by rw [Int32.le_iff_toInt_le, e1, Int32.toInt_zero]; omega) ?_
    have h9 := hp a hf (fun _ _ => rfl)
    rw [sb_cap, if_pos h] at h9
    exact h9
  · have hr' : 1 ≤ mc ∧ sb_cap q m ≤ ms ∧ sb_cap q m ≤ 65536 := hr.resolve_left h
    have hc : sb_cap q m = m + (if q - m < m + 2 then m + 2 else q - m) := by
      unfold sb_cap
      rw [if_neg h]
      split <;> split <;> omega
    have hg := sb_cap_ge q m
    refine br_f (fun hc => h (by rw [Int32.le_iff_toInt_le, e1, Int32.toInt_zero] at hc; omega)) ?_
    have e2 : Int32.ofNat m + ((2 : Int32) <<< ((0 : Int32) &&& 31)) = nI (m + 2) := by
      rw [sb_shl0]
      exact nI_add m 2
    have e3 : Int32.ofNat m + (if nI (q - m) < nI (m + 2) then nI (m + 2) else nI (q - m)) = nI (sb_cap q m) := by
      rw [hc]
      by_cases h2 : q - m < m + 2
      · rw [if_pos h2, if_pos (nI_lt h2 (by omega))]
        exact nI_add m (m + 2)
      · rw [if_neg h2, if_neg (nI_nlt (by omega) (by omega))]
        exact nI_add m (q - m)
    refine nm_e (nm_r (sb_shl0 (nI q)) (nm_r (show nI q - nI m = nI (q - m) from pk_sub (by omega)) ?_))
    rw [e2]
    refine nm_r e3 (br_f (nI_nle (by omega) (by omega)) (br_f (show ¬ nI 2147483639 < nI (sb_cap q m) from nI_nlt (by omega) (by decide)) ?_))
    refine br_f (fun z9 => by have := (nI_eq (by omega) (by decide)).mp (show nI (sb_cap q m) = nI 2147483647 from z9); omega) ?_
    rw [sb_shr0]
    refine ⟨mc, ms, by omega, by omega, ?_⟩
    rw [sb_shl0]
    exact sb_copyOf (by omega) hr'.2.2 hf hr'.1 hr'.2.1 (hp _ (sb_fitC hf sb_fit0) (fun j hj => sb_cpy0 hj))
/-- StringBuilder.append(char), a Latin-1 letter c -/
theorem sb_appendChar {post : StJ4ec0e → Prop} {mc ms : Nat} {ml : Int32} {t : Nat → Nat} {a : Nat → Int32} {n m c : Nat} (hnm : n ≤ m) (hm : m ≤ 65536) (hL : sb_Lat t n a) (hf : sb_Fit a) (hc : c < 256) (hr : sb_Room (n + 1) m mc ms)
    (hp : ∀ a', sb_Lat (sb_cat t n (fun _ => c)) (n + 1) a' → sb_Fit a' → post (0, ml, nI (n + 1), a', sb_cap (n + 1) m)) : wpJ4_append_cf468_b0715 post mc ms (0, ml, nI n, a, m) (nI c) := by
  have hg := sb_cap_ge (n + 1) m
  have hl := sb_cap_le hm hr
  refine ⟨mc, ms, by omega, by omega, mc, ms, by omega, by omega, ?_⟩
  rw [nI_1]
  refine sb_ensure hm (by omega) hf hr (fun a' hf' hk => ?_)
  refine br_t rfl (br_f (by decide) ?_)
  refine br_f (show ¬ nI 255 < nI c from nI_nlt (by omega) (by decide)) (br_f (by decide) ?_)
  refine nm_r (nI_1 n) ⟨vp_in_nI (by omega) (by omega), nm_r (e' := upd a' n (sb_b c)) (by rw [nI_clamp (by omega), pk_vb]; rfl) ?_⟩
  refine hp _ (sb_latPut hL (fun j hj => ?_) (fun i hi => ?_)) (sb_fitU hf' (sb_fitB c))
  · rw [pk_un (by omega)]
    exact hk j (by omega)
  · obtain rfl : i = 0 := by omega
    exact ⟨hc, pk_us⟩
/-- StringBuilder.append(String), a Latin-1 text s of w letters -/
theorem sb_appendStr {post : StJ9c5ae → Prop} {mc ms : Nat} {ml h2 z2 : Int32} {t s : Nat → Nat} {a b : Nat → Int32} {n m w : Nat} (hnm : n ≤ m) (hm : m ≤ 65536) (hL : sb_Lat t n a) (hf : sb_Fit a) (hw : w ≤ 65536) (hb : sb_Lat s w b) (hfb : sb_Fit b) (hr : sb_Room (n + w) m mc ms)
    (hp : ∀ a', sb_Lat (sb_cat t n s) (n + w) a' → sb_Fit a' → post (0, ml, nI (n + w), a', sb_cap (n + w) m, 0, h2, z2, b, w)) : wpJ4_append_15ec4_b217c post mc ms (0, ml, nI n, a, m, 0, h2, z2, b, w) := by
  have hg := sb_cap_ge (n + w) m
  have hl := sb_cap_le hm hr
  refine ⟨mc, ms, by omega, by omega, ?_⟩
  rw [wpJ5_append_cf1ce_b217c]
  refine sv_length ⟨mc, ms, by omega, by omega, ?_⟩
  rw [nI_add]
  refine sb_ensure hm (by omega) hf hr (fun a' hf' hk => ?_)
  refine ⟨0, 0, by omega, by omega, 0, 0, by omega, by omega, by decide, br_t rfl ⟨by decide, br_t rfl ?_⟩⟩
  rw [sb_shl0, show (Int32.ofNat w).toNatClampNeg = w from nI_clamp (by omega), nI_clamp (n := n) (by omega), sb_cl0]
  refine ⟨by decide, nI_pos (by omega), nI_pos (by omega), by omega, by omega, fun i _ => hfb _, nm_e (nm_r (nI_add n w) ?_)⟩
  refine hp _ (sb_latPut hL (fun j hj => ?_) (fun i hi => ?_)) (sb_fitC hfb hf')
  · rw [pk_cpy_out (by omega)]
    exact hk j (by omega)
  · rw [pk_cpy_in (by omega) (by omega), show 0 + (n + i - n) = i by omega]
    exact hb i hi
theorem sb_copyRange {post : StJefc9b → Prop} {mc ms : Nat} {a : Nat → Int32} {n m : Nat} (hnm : n ≤ m) (hm : m ≤ 65536) (hf : sb_Fit a) (hmc : 1 ≤ mc) (hms : n ≤ ms)
    (hp : ∀ a', sb_Fit a' → (∀ j, j < n → a' j = a j) → post (a, m, a', n)) : wpJ7_copyOfRange_39247_f5dda post mc ms (a, m) 0 (nI n) := by
  refine br_t rfl (pk_eq n m (fun e => ?_) (fun e => ?_))
  · subst e
    exact ⟨fun i _ => hf i, hmc, by omega, hp a hf (fun _ _ => rfl)⟩
  · have ei : (if nI n < (Int32.ofNat m - 0) then nI n else (Int32.ofNat m - 0)) = nI n := by
      rw [show Int32.ofNat m - 0 = nI m from pk_sub (a := m) (b := 0) (by omega)]
      exact if_pos (nI_lt (by omega) (by omega))
    refine ⟨mc, ms, by omega, by omega, br_t (nI_pos' (by omega)) (nm_r (e' := nI n) (pk_sub (a := n) (b := 0) (by omega)) ⟨nI_pos (by omega), nm_r (nI_clamp (by omega)) ⟨by omega, hmc, by omega, ?_⟩⟩)⟩
    rw [ei, nI_clamp (n := n) (by omega), sb_cl0]
    exact ⟨by decide, by decide, nI_pos (by omega), by omega, by omega, fun i _ => hf _, nm_e (hp _ (sb_fitC hf sb_fit0) (fun j hj => sb_cpy0 hj))⟩
/-- StringBuilder.toString -/
theorem sb_toString {post : StJ9c5ae → Prop} {mc ms : Nat} {ml : Int32} {t : Nat → Nat} {a : Nat → Int32} {n m : Nat} (hnm : n ≤ m) (hm : m ≤ 65536) (hL : sb_Lat t n a) (hf : sb_Fit a) (hmc : 2 ≤ mc) (hms : n + 4 ≤ ms)
    (hp : ∀ a', sb_Lat t n a' → sb_Fit a' → post (0, ml, nI n, a, m, 0, 0, 0, a', n)) : wpJ4_toString_0e30d_76c3d post mc ms (0, ml, nI n, a, m) := by
  refine ⟨by omega, by omega, mc - 1, ms - 4, by omega, by omega, mc - 1, ms - 4, by omega, by omega, br_t rfl (br_f (by decide) ⟨mc - 1, ms - 4, by omega, by omega, ?_⟩)⟩
  exact sb_copyRange hnm hm hf (by omega) (by omega) (fun a' hf' hk => hp a' (sb_latKeep hL hk) hf')
theorem sv_check {post : Unit → Prop} {i n : Nat} (hi : i < n) (hn : n < 2 ^ 31) (hp : post ()) : wpJ0_checkIndex_df160_48e5c post () (nI i) (nI n) :=
  ⟨br_f (nI_pos (by omega)) (br_t (nI_lt hi hn) hp), br_f (nI_pos (by omega)) (br_t (nI_lt hi hn) hp)⟩
/-- String.charAt of a Latin-1 text -/
theorem sv_charAt {post : Int32 → Prop} {h z : Int32} {t : Nat → Nat} {a : Nat → Int32} {n i : Nat} (hn : n ≤ 65536) (hL : sb_Lat t n a) (hi : i < n) (hp : post (nI (t i))) : wpJ0_charAt_5068e_f8cf6 post (0, h, z, a, n) (nI i) := by
  obtain ⟨h1, h2⟩ := hL i hi
  obtain ⟨b1, b2, -⟩ := sb_byte _ h1
  have hc := (pk_charN (q := t i) (by omega)).1
  refine br_t rfl (br_f (by decide) ?_)
  rw [wpJ1_charAt_3b067_49ada]
  refine sv_check hi (by omega) ⟨vp_in_nI hi (by omega), ?_⟩
  rw [nI_clamp (by omega), h2, b1, b2]
  exact ⟨hc, hc, hp⟩
theorem sv_compress {P : Int32 → StJbedf7 → Prop} {t : Nat → Nat} {b : Nat → Int32} {n : Nat} (hn : n ≤ 65536) (ht : ∀ j, j < n → t j < 256 ∧ b j = nI (t j)) (hP : ∀ a', sb_Lat t n a' → sb_Fit a' → P (nI n) (b, n, a', n)) :
    ∀ (d k : Nat) (a : Nat → Int32), k + d = n → sb_Lat t k a → sb_Fit a → wJ2_compress_fe38e_1fd7f_3 P (nI n) n n (d + 1) (nI k) (nI k) (nI k) b a := by
  intro d
  induction d with
  | zero =>
    intro k a hk hL hf
    rw [wJ2_compress_fe38e_1fd7f_3]
    refine br_t ((nI_leI (by omega) (by omega)).mpr (by omega)) (hP a ?_ hf)
    rw [← show k = n by omega]
    exact hL
  | succ d ih =>
    intro k a hk hL hf
    obtain ⟨b1, b2⟩ := ht k (by omega)
    obtain ⟨-, -, b3⟩ := sb_byte _ b1
    rw [wJ2_compress_fe38e_1fd7f_3]
    refine br_f (nI_ge (by omega) (by omega)) ⟨vp_in_nI (by omega) (by omega), nm_r (e' := nI (t k)) (by rw [nI_clamp (by omega), b2]) (br_t b3 ⟨vp_in_nI (by omega) (by omega), ?_⟩)⟩
    refine nm_r (e' := upd a k (sb_b (t k))) (by rw [nI_clamp (by omega), pk_vb]; rfl) (nm_r (nI_1 k) (nm_r (nI_1 k) (nm_r (nI_1 k) ?_)))
    refine ih (k + 1) _ (by omega) (fun j hj => ?_) (sb_fitU hf (sb_fitB _))
    by_cases e : j = k
    · subst e
      exact ⟨b1, pk_us⟩
    · rw [pk_un e]
      exact hL j (by omega)
/-- new String(char[]) of n Latin-1 letters, n not 0 -/
theorem sv_new {post : (StJ0f59a ⊕ StJd31f1) → Prop} {mc ms : Nat} {c h z : Int32} {t : Nat → Nat} {b : Nat → Int32} {n : Nat} (h0 : 0 < n) (hn : n ≤ 65536) (ht : ∀ j, j < n → t j < 256 ∧ b j = nI (t j)) (hmc : 1 ≤ mc) (hms : n ≤ ms)
    (hp : ∀ a', sb_Lat t n a' → sb_Fit a' → post (.inl (0, h, z, a', n, b, n))) : wpJ0_init_905df_fc072 post mc ms (c, h, z, b, n) := by
  refine ⟨mc, ms, by omega, by omega, br_f (nI_ne0 h0 (by omega)) ⟨mc, ms, by omega, by omega, nI_pos (by omega), nm_r (nI_clamp (by omega)) ⟨by omega, hmc, by omega, n + 1, ?_⟩⟩⟩
  refine sv_compress hn ht (fun a' hL hf => ?_) n 0 _ (by omega) (fun j hj => absurd hj (Nat.not_lt_zero j)) sb_fit0
  refine br_t rfl ⟨pk_nb _, ?_⟩
  have e1 : (((Int32.ofNat n - Int32.ofNat n).toUInt32 >>> ((31 : Int32).toUInt32 &&& Int32.toUInt32 31)).toInt32).toInt8.toInt32 = 0 := by
    rw [Int32.sub_self]
    decide
  rw [e1]
  exact ⟨by decide, by decide, hp a' hL hf⟩
/-- String.equals of two Strings with the same bytes -/
theorem sv_equals {post : Int32 → Prop} {h z h' z' : Int32} {a a' : Nat → Int32} {n : Nat} (hn : n ≤ 65536) (he : ∀ j, j < n → a j = a' j) (hp : post 1) : wpJ0_equals_9ea2d_d3b40 post (0, h, z, a, n, 0, h', z', a', n) := by
  have L : ∀ (P : Int32 → Prop), P 1 → ∀ (d k : Nat), k + d = n → wJ1_equals_b5fdf_9f0d2_9 P a n a' n (d + 1) (nI k) := by
    intro P h1 d
    induction d with
    | zero =>
      intro k hk
      rw [wJ1_equals_b5fdf_9f0d2_9]
      exact br_t ((nI_leI (by omega) (by omega)).mpr (by omega)) h1
    | succ d ih =>
      intro k hk
      rw [wJ1_equals_b5fdf_9f0d2_9]
      refine br_f (nI_ge (by omega) (by omega)) ⟨vp_in_nI (by omega) (by omega), vp_in_nI (by omega) (by omega), br_t ?_ (nm_r (nI_1 k) (ih (k + 1) (by omega)))⟩
      rw [nI_clamp (by omega)]
      exact he k (by omega)
  exact br_t rfl (br_t rfl ⟨n + 1, L _ (br_f (by decide) hp) n 0 (by omega)⟩)
/-- every literal: its length is its byte list's, every entry is a byte -/
theorem sc_all : ∀ i, i < nJS → (lenJS.getD i 0 = (bytJS.getD i []).length ∧ (bytJS.getD i []).length < 2 ^ 31 ∧ ∀ b ∈ bytJS.getD i [], b.toInt8.toInt32 = b) := by decide +kernel
/-- the char at k -/
def sc_ch (i k : Nat) : Int32 := (bytJS.getD i []).getD k 0 &&& 255
/-- charAt(k) -/
theorem sc_charAt {post : Int32 → Prop} {u : StJ02238} {i k : Nat} (hi : i < nJS) (hk : k < lenJS.getD i 0) (h : post (sc_ch i k)) : wpJ0_charAt_5068e_7076d post u i (nI k) := by
  obtain ⟨hl, hL, -⟩ := sc_all i hi
  have eX : ((((bytJS.getD i []).getD (nI k).toNatClampNeg 0) &&& 255).toUInt32 % 65536).toInt32 = sc_ch i k := by
    rw [nI_clamp (by omega)]
    exact sc_c2 _
  have nX : narrow .char (.int (sc_ch i k)) = .int (sc_ch i k) := sc_nar _
  refine ⟨hi, hi, br_f (by decide) ⟨hi, ?_⟩⟩
  have core : vp_in (nI k) (lenJS.getD i 0) ∧ (narrow .char (.int ((((bytJS.getD i []).getD (nI k).toNatClampNeg 0) &&& 255).toUInt32 % 65536).toInt32) = .int ((((bytJS.getD i []).getD (nI k).toNatClampNeg 0) &&& 255).toUInt32 % 65536).toInt32 ∧ (narrow .char (.int ((((bytJS.getD i []).getD (nI k).toNatClampNeg 0) &&& 255).toUInt32 % 65536).toInt32) = .int ((((bytJS.getD i []).getD (nI k).toNatClampNeg 0) &&& 255).toUInt32 % 65536).toInt32 ∧ post ((((bytJS.getD i []).getD (nI k).toNatClampNeg 0) &&& 255).toUInt32 % 65536).toInt32)) := by
    rw [eX]
    exact ⟨vp_in_nI hk (by omega), nX, nX, h⟩
  exact ⟨br_f (nI_pos (by omega)) (br_t (nI_lt hk (by omega)) core), br_f (nI_pos (by omega)) (br_t (nI_lt hk (by omega)) core)⟩
end
section
/-! new String of no letters; the constant "" as a String; new StringBuilder(String) -/
/-- new String(char[]) of no letters: the String takes the bytes of "" -/
theorem pd_new0 {post : (StJ0f59a ⊕ StJd31f1) → Prop} {mc ms : Nat} {c h z : Int32} {b : Nat → Int32}
    (hp : post (.inr (0, h, z, b, 0))) : wpJ0_init_905df_fc072 post mc ms (c, h, z, b, 0) :=
  ⟨0, 0, by omega, by omega, br_t rfl hp⟩
/-- a char stored into a char array -/
theorem pd_vc {q : Nat} (h : q < 65536) : vp_nar .char (nI q) = nI q := by
  unfold vp_nar
  rw [(pk_charN h).1]
/-- length of a String over the bytes of "" -/
theorem pd_len0 {post : Int32 → Prop} {h z : Int32} (hp : post (nI 0)) : wpJ0_length_8abf5_fa096 post (0, h, z) := by
  have e : (Int32.ofNat (lenJS.getD 1 0)) >>> ((0 : Int32) &&& 31) = nI 0 := by decide
  exact ⟨by decide, Eq.mpr (congrArg post e) hp⟩
/-- String.equals of a String of no bytes with one over the bytes of "" -/
theorem pd_eq0 {post : Int32 → Prop} {h z h' z' : Int32} {a : Nat → Int32} (hp : post 1) : wpJ0_equals_9ea2d_a52eb post (0, h, z, a, 0, 0, h', z') := by
  refine br_t rfl ⟨by decide, br_t rfl ⟨1, ?_⟩⟩
  rw [wJ1_equals_b5fdf_8bd75_9]
  exact br_t (by decide) (br_f (by decide) hp)
theorem pd_cat0 {t s : Nat → Nat} {w : Nat} {a : Nat → Int32} (h : sb_Lat (sb_cat t 0 s) (0 + w) a) : sb_Lat s w a := by
  intro j hj
  have h1 := h j (by omega)
  have e : sb_cat t 0 s j = s j := by
    unfold sb_cat
    rw [if_neg (Nat.not_lt_zero j), Nat.sub_zero]
  rw [e] at h1
  exact h1
/-- new StringBuilder(String) of a Latin-1 text t of w letters -/
theorem pd_init {post : StJ9c5ae → Prop} {mc ms : Nat} {h z : Int32} {t : Nat → Nat} {b : Nat → Int32} {w : Nat} (hw : w ≤ 60000) (hb : sb_Lat t w b) (hfb : sb_Fit b) (hmc : 1 ≤ mc) (hms : w + 16 ≤ ms)
    (hp : ∀ a', sb_Lat t w a' → sb_Fit a' → post (0, 0, nI w, a', w + 16, 0, h, z, b, w)) : wpJ4_init_a7421_2125b post mc ms (0, 0, 0, 0, h, z, b, w) := by
  refine ⟨mc, ms, by omega, by omega, ?_⟩
  rw [wpJ5_init_a7421_2125b]
  refine sv_length (br_f (show ¬ nI 2147483631 ≤ nI w from nI_ge (by omega) (by decide)) ?_)
  rw [show nI w + 16 = nI (w + 16) from nI_add w 16]
  refine ⟨by decide, by decide, by decide, br_t rfl ⟨nI_pos (by omega), nm_r (nI_clamp (by omega)) ⟨by omega, by omega, by omega, mc - 1, ms - (w + 16), by omega, by omega, mc - 1, ms - (w + 16), by omega, by omega, ?_⟩⟩⟩
  refine sb_appendStr (t := fun _ => 0) (s := t) (n := 0) (m := w + 16) (by omega) (by omega) (fun j hj => absurd hj (Nat.not_lt_zero j)) sb_fit0 (by omega) hb hfb (Or.inl (by omega)) (fun a' h1 h2 => ?_)
  have h9 := hp a' (pd_cat0 h1) h2
  rw [show sb_cap (0 + w) (w + 16) = w + 16 from if_pos (by omega), Nat.zero_add]
  exact h9
/-- append of a String over the bytes of "" to an empty builder -/
theorem pd_append0 {post : StJ04d0a → Prop} {mc ms : Nat} {ml h z : Int32} (hp : ∀ a', sb_Fit a' → post (0, ml, nI 0, a', 16, 0, h, z)) : wpJ5_append_cf1ce_2cee4 post mc ms (0, ml, nI 0, fun _ => 0, 16, 0, h, z) := by
  rw [wpJ5_append_cf1ce_2cee4]
  refine pd_len0 ⟨mc, ms, by omega, by omega, ?_⟩
  rw [nI_add]
  refine sb_ensure (m := 16) (q := 0 + 0) (by decide) (by decide) sb_fit0 (Or.inl (by decide)) (fun a' hf' hk => ?_)
  rw [show sb_cap (0 + 0) 16 = 16 from if_pos (by decide)]
  refine ⟨0, 0, by omega, by omega, 0, 0, by omega, by omega, by decide, br_t rfl ⟨by decide, br_t rfl ?_⟩⟩
  have hz : sb_Fit (fun j => (bytJS.getD 1 []).getD j 0) := fun j => sb_fit0 j
  exact ⟨by decide, by decide, by decide, by decide, by decide, fun i _ => hz _, nm_e (nm_r (nI_add 0 0) (hp _ (sb_fitC hz hf')))⟩
/-- new StringBuilder(String) of a String over the bytes of "" -/
theorem pd_init0 {post : StJ04d0a → Prop} {mc ms : Nat} {h z : Int32} (hmc : 1 ≤ mc) (hms : 16 ≤ ms)
    (hp : ∀ a', sb_Fit a' → post (0, 0, nI 0, a', 16, 0, h, z)) : wpJ4_init_a7421_dedde post mc ms (0, 0, 0, 0, h, z) := by
  refine ⟨mc, ms, by omega, by omega, ?_⟩
  rw [wpJ5_init_a7421_dedde]
  refine pd_len0 (br_f (by decide) ?_)
  rw [show nI 0 + 16 = nI 16 from nI_add 0 16]
  refine ⟨by decide, by decide, by decide, br_t rfl ⟨by decide, nm_r (e' := 16) (by decide) ⟨by decide, by omega, by omega, mc - 1, ms - 16, by omega, by omega, mc - 1, ms - 16, by omega, by omega, mc - 1, ms - 16, by omega, by omega, ?_⟩⟩⟩
  exact pd_append0 hp
end
section
/-! the law's text(bits, size): a String of size & 7 letters, each of the eight signs -/
def pd_sg (j : Nat) : Nat := [97, 98, 46, 99, 100, 32, 101, 102].getD j 0
theorem pd_sgs : ∀ j, j < 8 → (pd_sg j < 256 ∧ sc_ch 0 j = nI (pd_sg j)) := by decide +kernel
theorem pd_put {T : Nat → Nat} {b : Nat → Int32} {p : Nat} {x : Int32} (hm : ∀ j, j < p → b j = nI (T j)) (e : x = nI (T p)) : ∀ j, j < p + 1 → upd b p x j = nI (T j) := by
  intro j hj
  by_cases h : j = p
  · subst h
    rw [pk_us]
    exact e
  · rw [pk_un h]
    exact hm j (by omega)
theorem pd_lat1 {T : Nat → Nat} {k c : Nat} {b : Nat → Int32} (hc : c < 256) (h : ∀ j, j < k → T j < 256 ∧ b j = nI (T j)) : ∀ j, j < k + 1 → sb_cat T k (fun _ => c) j < 256 ∧ upd b k (nI c) j = nI (sb_cat T k (fun _ => c) j) := by
  intro j hj
  by_cases e : j = k
  · subst e
    have e2 : sb_cat T j (fun _ => c) j = c := by
      unfold sb_cat
      rw [if_neg (Nat.lt_irrefl j)]
    rw [pk_us, e2]
    exact ⟨hc, rfl⟩
  · rw [pk_un e, sb_cat_lo (by omega)]
    exact h j (by omega)
theorem pd_tloop {post : (St1 ⊕ St2) → Prop} {mc ms n : Nat} {x : Int32} (hn : n ≤ 7) (hmc : 3 ≤ mc) (hms : 18 ≤ ms)
    (h0 : n = 0 → post (.inr (0, 0, 0))) (h1 : 0 < n → ∀ (T : Nat → Nat) (a : Nat → Int32), sb_Lat T n a → sb_Fit a → post (.inl (0, 0, 0, a, n))) :
    ∀ (d k : Nat) (b : Nat → Int32) (T : Nat → Nat), k + d = n → (∀ j, j < k → T j < 256 ∧ b j = nI (T j)) → wL_text_13 post mc ms x 0 1 (0 + n) n (d + 1) (nI k) b := by
  intro d
  induction d with
  | zero =>
    intro k b T hk hb
    obtain rfl : k = n := by omega
    rw [wL_text_13]
    refine br_t ((nI_leI (by omega) (by omega)).mpr (by omega)) ⟨by omega, by omega, 1, k, by omega, by omega, ?_⟩
    rcases Nat.eq_zero_or_pos k with e | e
    · subst e
      exact pd_new0 (h0 rfl)
    · exact sv_new (t := T) e (by omega) hb (by omega) (by omega) (fun a' hL hf => h1 e T a' hL hf)
  | succ d ih =>
    intro k b T hk hb
    rw [wL_text_13]
    obtain ⟨j, hj, ej⟩ := pk_andE ((x.toUInt32 >>> ((3 * nI k).toUInt32 &&& Int32.toUInt32 31)).toInt32) 3 (m := 7) (by decide)
    obtain ⟨c1, c2⟩ := pd_sgs j hj
    refine br_f (nI_ge (by omega) (by omega)) ⟨by decide, ?_⟩
    rw [ej]
    refine sc_charAt (by decide) hj ⟨vp_in_nI (by omega) (by omega), ?_⟩
    refine nm_r (e' := upd b k (nI (pd_sg j))) (by rw [nI_clamp (by omega), c2, pd_vc (by omega)]) (nm_r (nI_1 k) ?_)
    exact ih (k + 1) _ (sb_cat T k (fun _ => pd_sg j)) (by omega) (pd_lat1 c1 hb)
theorem pd_text {post : (St1 ⊕ St2) → Prop} {mc ms : Nat} {x y : Int32} (hmc : 3 ≤ mc) (hms : 18 ≤ ms)
    (h0 : post (.inr (0, 0, 0))) (h1 : ∀ (n : Nat) (T : Nat → Nat) (a : Nat → Int32), 0 < n → n ≤ 7 → sb_Lat T n a → sb_Fit a → post (.inl (0, 0, 0, a, n))) : wpL_text post mc ms () x y := by
  obtain ⟨n, hn, en⟩ := pk_andE y 3 (m := 7) (by decide)
  unfold wpL_text
  rw [en]
  refine ⟨nI_pos (by omega), nm_r (nI_clamp (by omega)) ⟨by omega, by omega, by omega, n + 1, ?_⟩⟩
  exact pd_tloop (by omega) hmc hms (fun _ => h0) (fun hp T a hL hf => h1 n T a hp (by omega) hL hf) n 0 _ (fun _ => 0) (by omega) (fun j hj => absurd hj (Nat.not_lt_zero j))
end
section
/-! padDots: the class's (a builder that grows by dots), the plain one (a char array) -/
/-- a text t of n letters, dots behind it -/
def pd_t (t : Nat → Nat) (n : Nat) : Nat → Nat := fun j => if j < n then t j else 46
theorem pd_t_lo {t : Nat → Nat} {n j : Nat} (h : j < n) : pd_t t n j = t j := if_pos h
theorem pd_t_hi {t : Nat → Nat} {n j : Nat} (h : n ≤ j) : pd_t t n j = 46 := if_neg (by omega)
theorem pd_t_lat {t : Nat → Nat} {n : Nat} {a : Nat → Int32} (h : sb_Lat t n a) : sb_Lat (pd_t t n) n a := fun j hj => by
  rw [pd_t_lo hj]
  exact h j hj
theorem pd_t_lt {t : Nat → Nat} {n : Nat} {a : Nat → Int32} (h : sb_Lat t n a) (j : Nat) : pd_t t n j < 256 := by
  by_cases e : j < n
  · rw [pd_t_lo e]
    exact (h j e).1
  · rw [pd_t_hi (by omega)]
    decide
theorem pd_t_add {t : Nat → Nat} {n c : Nat} {a : Nat → Int32} (hc : n ≤ c) (h : sb_Lat (sb_cat (pd_t t n) c (fun _ => 46)) (c + 1) a) : sb_Lat (pd_t t n) (c + 1) a := by
  intro j hj
  have h1 := h j hj
  have e : sb_cat (pd_t t n) c (fun _ => 46) j = pd_t t n j := by
    by_cases g : j < c
    · exact sb_cat_lo g
    · rw [pd_t_hi (by omega)]
      exact if_neg g
  rw [e] at h1
  exact h1
/-- the class's loop, the String held by bytes of its own -/
theorem pd_loop {post : St3 → Prop} {mc ms W n N : Nat} {x h z : Int32} {b : Nat → Int32} {t : Nat → Nat} (hx : ∀ q, q < 2 ^ 30 → (x ≤ nI q ↔ W ≤ q)) (hn : n ≤ N) (hW : W ≤ N) (hN : N = n ∨ N = W) (h16 : N ≤ 16)
    (hp : ∀ a', sb_Lat (pd_t t n) N a' → sb_Fit a' → post (0, h, z, b, n, 0, 0, 0, a', N)) :
    ∀ (d c kc ks : Nat) (a : Nat → Int32), n ≤ c → c + d = N → kc + 2 ≤ mc → ks + 20 ≤ ms → sb_Lat (pd_t t n) c a → sb_Fit a → wX0_padDots_9 post mc ms x (d + 1) kc ks 0 h z b n 0 0 (nI c) a (n + 16) := by
  intro d
  induction d with
  | zero =>
    intro c kc ks a hc hd hkc hks hL hf
    obtain rfl : c = N := by omega
    rw [wX0_padDots_9]
    refine br_t ((hx c (by omega)).mpr hW) ⟨2, c + 4, by omega, by omega, ?_⟩
    exact sb_toString (by omega) (by omega) hL hf (by omega) (by omega) (fun a' h1 h2 => hp a' h1 h2)
  | succ d ih =>
    intro c kc ks a hc hd hkc hks hL hf
    rw [wX0_padDots_9]
    refine br_f (fun g => by have := (hx c (by omega)).mp g; omega) ⟨0, 0, by omega, by omega, ?_⟩
    refine sb_appendChar (c := 46) (by omega) (by omega) hL hf (by decide) (Or.inl (by omega)) (fun a' h1 h2 => ?_)
    rw [show sb_cap (c + 1) (n + 16) = n + 16 from if_pos (by omega)]
    exact ih (c + 1) _ _ a' (by omega) (by omega) (by omega) (by omega) (pd_t_add hc h1) h2
theorem pd_pad {post : St3 → Prop} {mc ms W n N : Nat} {x h z : Int32} {b : Nat → Int32} {t : Nat → Nat} (hx : ∀ q, q < 2 ^ 30 → (x ≤ nI q ↔ W ≤ q)) (hn : n ≤ N) (hW : W ≤ N) (hN : N = n ∨ N = W) (h16 : N ≤ 16) (hb : sb_Lat t n b) (hfb : sb_Fit b) (hmc : 4 ≤ mc) (hms : 56 ≤ ms)
    (hp : ∀ a', sb_Lat (pd_t t n) N a' → sb_Fit a' → post (0, h, z, b, n, 0, 0, 0, a', N)) : wpX0_padDots post mc ms (0, h, z, b, n) x := by
  refine ⟨by omega, by omega, 1, n + 16, by omega, by omega, ?_⟩
  refine pd_init (by omega) hb hfb (by omega) (by omega) (fun a h1 h2 => ⟨N - n + 1, ?_⟩)
  exact pd_loop hx hn hW hN h16 hp (N - n) n _ _ a (by omega) (by omega) (by omega) (by omega) (pd_t_lat h1) h2
/-- the class's loop, the String over the bytes of "" -/
theorem pd_loop0 {post : St5 → Prop} {mc ms W : Nat} {x h z : Int32} {t : Nat → Nat} (hx : ∀ q, q < 2 ^ 30 → (x ≤ nI q ↔ W ≤ q)) (h16 : W ≤ 16)
    (hp : ∀ a', sb_Lat (pd_t t 0) W a' → sb_Fit a' → post (0, h, z, 0, 0, 0, a', W)) :
    ∀ (d c kc ks : Nat) (a : Nat → Int32), c + d = W → kc + 2 ≤ mc → ks + 20 ≤ ms → sb_Lat (pd_t t 0) c a → sb_Fit a → wX0_padDots_2_9 post mc ms x (d + 1) kc ks 0 h z 0 0 (nI c) a 16 := by
  intro d
  induction d with
  | zero =>
    intro c kc ks a hd hkc hks hL hf
    obtain rfl : c = W := by omega
    rw [wX0_padDots_2_9]
    refine br_t ((hx c (by omega)).mpr (Nat.le_refl c)) ⟨2, c + 4, by omega, by omega, ?_⟩
    exact sb_toString (by omega) (by omega) hL hf (by omega) (by omega) (fun a' h1 h2 => hp a' h1 h2)
  | succ d ih =>
    intro c kc ks a hd hkc hks hL hf
    rw [wX0_padDots_2_9]
    refine br_f (fun g => by have := (hx c (by omega)).mp g; omega) ⟨0, 0, by omega, by omega, ?_⟩
    refine sb_appendChar (c := 46) (by omega) (by omega) hL hf (by decide) (Or.inl (by omega)) (fun a' h1 h2 => ?_)
    rw [show sb_cap (c + 1) 16 = 16 from if_pos (by omega)]
    exact ih (c + 1) _ _ a' (by omega) (by omega) (by omega) (pd_t_add (by omega) h1) h2
theorem pd_pad0 {post : St5 → Prop} {mc ms W : Nat} {x h z : Int32} {t : Nat → Nat} (hx : ∀ q, q < 2 ^ 30 → (x ≤ nI q ↔ W ≤ q)) (h16 : W ≤ 16) (hmc : 4 ≤ mc) (hms : 56 ≤ ms)
    (hp : ∀ a', sb_Lat (pd_t t 0) W a' → sb_Fit a' → post (0, h, z, 0, 0, 0, a', W)) : wpX0_padDots_2 post mc ms (0, h, z) x := by
  refine ⟨by omega, by omega, 1, 16, by omega, by omega, ?_⟩
  refine pd_init0 (by omega) (by omega) (fun a h2 => ⟨W + 1, ?_⟩)
  exact pd_loop0 hx h16 hp W 0 _ _ a (by omega) (by omega) (by omega) (fun j hj => absurd hj (Nat.not_lt_zero j)) h2
/-- the plain loop, the String held by bytes of its own -/
theorem pd_fill {post : (St3 ⊕ St4) → Prop} {mc ms n N : Nat} {h z : Int32} {a : Nat → Int32} {t : Nat → Nat} (h0 : 0 < n) (hn : n ≤ N) (h16 : N ≤ 16) (hL : sb_Lat t n a) (hmc : 3 ≤ mc) (hms : 36 ≤ ms)
    (hp : ∀ a', sb_Lat (pd_t t n) N a' → sb_Fit a' → post (.inl (0, h, z, a, n, 0, 0, 0, a', N))) :
    ∀ (d k : Nat) (b : Nat → Int32), k + d = N → (∀ j, j < k → b j = nI (pd_t t n j)) → wX1_padDots_19 post mc ms (nI N) 1 (0 + N) 0 h z n N (d + 1) (nI k) a b := by
  intro d
  induction d with
  | zero =>
    intro k b hk hb
    obtain rfl : k = N := by omega
    rw [wX1_padDots_19]
    refine br_t ((nI_leI (by omega) (by omega)).mpr (by omega)) ⟨by omega, by omega, 1, k, by omega, by omega, ?_⟩
    exact sv_new (t := pd_t t n) (by omega) (by omega) (fun j hj => ⟨pd_t_lt hL j, hb j hj⟩) (by omega) (by omega) (fun a' h1 h2 => hp a' h1 h2)
  | succ d ih =>
    intro k b hk hb
    rw [wX1_padDots_19]
    refine br_f (nI_ge (by omega) (by omega)) (sv_length (pk_le n k (fun g => ⟨vp_in_nI (by omega) (by omega), ?_⟩) (fun g => ?_)))
    · refine nm_r (e' := upd b k (nI (pd_t t n k))) (by rw [nI_clamp (by omega), pd_t_hi g]; rfl) (nm_r (nI_1 k) ?_)
      exact ih (k + 1) _ (by omega) (pd_put hb rfl)
    · refine sv_charAt (by omega) hL g ⟨vp_in_nI (by omega) (by omega), ?_⟩
      have h9 := (hL k g).1
      refine nm_r (e' := upd b k (nI (pd_t t n k))) (by rw [nI_clamp (by omega), pd_t_lo g, pd_vc (by omega)]) (nm_r (nI_1 k) ?_)
      exact ih (k + 1) _ (by omega) (pd_put hb rfl)
theorem pd_plain {post : (St3 ⊕ St4) → Prop} {mc ms W n N : Nat} {x h z : Int32} {a : Nat → Int32} {t : Nat → Nat} (hx : ∀ q, q < 2 ^ 30 → (x ≤ nI q ↔ W ≤ q)) (hx2 : 0 < W → x = nI W) (h0 : 0 < n) (hn : n ≤ N) (hW : W ≤ N) (hN : N = n ∨ N = W) (h16 : N ≤ 16) (hL : sb_Lat t n a) (hmc : 3 ≤ mc) (hms : 36 ≤ ms)
    (hp : ∀ a', sb_Lat (pd_t t n) N a' → sb_Fit a' → post (.inl (0, h, z, a, n, 0, 0, 0, a', N))) : wpX1_padDots post mc ms (0, h, z, a, n) x := by
  rw [wpX1_padDots]
  refine sv_length (br_c (fun g => ?_) (fun g => ?_))
  · have g1 := (hx n (by omega)).mp g
    obtain rfl : N = n := by omega
    refine ⟨nI_pos (by omega), nm_r (nI_clamp (by omega)) ⟨by omega, by omega, by omega, N + 1, ?_⟩⟩
    exact pd_fill h0 hn h16 hL hmc hms hp N 0 _ (by omega) (fun j hj => absurd hj (Nat.not_lt_zero j))
  · have g1 : n < W := by
      rcases Nat.lt_or_ge n W with q | q
      · exact q
      · exact absurd ((hx n (by omega)).mpr q) g
    obtain rfl : N = W := by omega
    rw [hx2 (by omega)]
    refine ⟨nI_pos (by omega), nm_r (nI_clamp (by omega)) ⟨by omega, by omega, by omega, N + 1, ?_⟩⟩
    exact pd_fill h0 hn h16 hL hmc hms hp N 0 _ (by omega) (fun j hj => absurd hj (Nat.not_lt_zero j))
/-- the plain loop, the String over the bytes of "" -/
theorem pd_fill0 {post : (St5 ⊕ St6) → Prop} {mc ms N : Nat} {h z : Int32} {t : Nat → Nat} (h16 : N ≤ 16) (hmc : 3 ≤ mc) (hms : 36 ≤ ms)
    (hq : N = 0 → post (.inr (0, h, z, 0, 0, 0))) (hp : 0 < N → ∀ a', sb_Lat (pd_t t 0) N a' → sb_Fit a' → post (.inl (0, h, z, 0, 0, 0, a', N))) :
    ∀ (d k : Nat) (b : Nat → Int32), k + d = N → (∀ j, j < k → b j = nI (pd_t t 0 j)) → wX1_padDots_2_19 post mc ms (nI N) 1 (0 + N) 0 h z N (d + 1) (nI k) b := by
  intro d
  induction d with
  | zero =>
    intro k b hk hb
    obtain rfl : k = N := by omega
    rw [wX1_padDots_2_19]
    refine br_t ((nI_leI (by omega) (by omega)).mpr (by omega)) ⟨by omega, by omega, 1, k, by omega, by omega, ?_⟩
    rcases Nat.eq_zero_or_pos k with e | e
    · subst e
      exact pd_new0 (hq rfl)
    · exact sv_new (t := pd_t t 0) e (by omega) (fun j hj => ⟨by rw [pd_t_hi (Nat.zero_le j)]; decide, hb j hj⟩) (by omega) (by omega) (fun a' h1 h2 => hp e a' h1 h2)
  | succ d ih =>
    intro k b hk hb
    rw [wX1_padDots_2_19]
    refine br_f (nI_ge (by omega) (by omega)) (pd_len0 (br_t (nI_le (Nat.zero_le k) (by omega)) ⟨vp_in_nI (by omega) (by omega), ?_⟩))
    refine nm_r (e' := upd b k (nI (pd_t t 0 k))) (by rw [nI_clamp (by omega), pd_t_hi (Nat.zero_le k)]; rfl) (nm_r (nI_1 k) ?_)
    exact ih (k + 1) _ (by omega) (pd_put hb rfl)
theorem pd_plain0 {post : (St5 ⊕ St6) → Prop} {mc ms W : Nat} {x h z : Int32} {t : Nat → Nat} (hx : ∀ q, q < 2 ^ 30 → (x ≤ nI q ↔ W ≤ q)) (hx2 : 0 < W → x = nI W) (h16 : W ≤ 16) (hmc : 3 ≤ mc) (hms : 36 ≤ ms)
    (hq : W = 0 → post (.inr (0, h, z, 0, 0, 0))) (hp : 0 < W → ∀ a', sb_Lat (pd_t t 0) W a' → sb_Fit a' → post (.inl (0, h, z, 0, 0, 0, a', W))) : wpX1_padDots_2 post mc ms (0, h, z) x := by
  rw [wpX1_padDots_2]
  refine pd_len0 (br_c (fun g => ?_) (fun g => ?_))
  · have g1 := (hx 0 (by decide)).mp g
    obtain rfl : W = 0 := by omega
    refine ⟨by decide, nm_r (nI_clamp (n := 0) (by decide)) ⟨by omega, by omega, by omega, 1, ?_⟩⟩
    exact pd_fill0 h16 hmc hms hq hp 0 0 _ rfl (fun j hj => absurd hj (Nat.not_lt_zero j))
  · have g1 : 0 < W := by
      rcases Nat.eq_zero_or_pos W with q | q
      · exact absurd ((hx 0 (by decide)).mpr (by omega)) g
      · exact q
    rw [hx2 g1]
    refine ⟨nI_pos (by omega), nm_r (nI_clamp (by omega)) ⟨by omega, by omega, by omega, W + 1, ?_⟩⟩
    exact pd_fill0 h16 hmc hms hq hp W 0 _ (by omega) (fun j hj => absurd hj (Nat.not_lt_zero j))
end
section
/-! the law -/
/-- the width (w & 15) - 4, as a natural: below 0 it is as 0 -/
theorem pd_w (p : Int32) : ∃ W : Nat, W ≤ 11 ∧ (∀ q, q < 2 ^ 30 → ((p &&& 15) - 4 ≤ nI q ↔ W ≤ q)) ∧ (0 < W → (p &&& 15) - 4 = nI W) := by
  obtain ⟨j, hj, e⟩ := pk_andE p 4 (m := 15) (by decide)
  rw [e]
  by_cases h : 4 ≤ j
  · have e2 : nI j - 4 = nI (j - 4) := pk_sub (b := 4) h
    rw [e2]
    exact ⟨j - 4, by omega, fun q hq => nI_leI (by omega) (by omega), fun _ => rfl⟩
  · have e2 : (nI j - 4).toInt = (j : Int) - 4 := pk_sub_toInt (a := j) (b := 4) (by omega) (by decide)
    refine ⟨0, by omega, fun q hq => ?_, fun g => absurd g (by omega)⟩
    rw [Int32.le_iff_toInt_le, e2, nI_toInt (by omega)]
    omega
theorem pd_cell {post : Int32 → Prop} {L : Nat} {xs : Nat → Int32} (k : Nat) (hk : k < 3) (hL : L ≤ 3) (hp : ∀ v, post v) : wpL_cellAt post L xs () (nI k) :=
  pk_le L k (fun _ => hp _) (fun g => ⟨vp_in_nI g (by omega), hp _⟩)
theorem pd_law {post : Int32 → St0 → Prop} (hp : post 1 ()) (p0 p1 p2 : Int32) : wpL_lawOf post 19 296 () p0 p1 p2 := by
  obtain ⟨W, hW, hx, hx2⟩ := pd_w p2
  have hB : narrow .boolean (.int (1 : Int32)) = .int (1 : Int32) := by decide
  refine ⟨3, 18, by decide, by decide, ?_⟩
  refine pd_text (by decide) (by decide) ?_ (fun n T a h0 h7 hL hf => ?_)
  · refine nm_e ⟨4, 56, by decide, by decide, ?_⟩
    refine pd_pad0 (t := fun _ => 0) hx (by omega) (by decide) (by decide) (fun a1 h1 _ => ⟨3, 36, by decide, by decide, ?_⟩)
    refine pd_plain0 (t := fun _ => 0) hx hx2 (by omega) (by decide) (by decide) (fun e => ?_) (fun _ a2 h2 _ => ?_)
    · subst e
      exact pd_eq0 ⟨hB, hp⟩
    · exact sv_equals (by omega) (fun j hj => (h1 j hj).2.trans (h2 j hj).2.symm) ⟨hB, hp⟩
  · obtain ⟨N, n1, n2, n3, n4⟩ : ∃ N : Nat, n ≤ N ∧ W ≤ N ∧ (N = n ∨ N = W) ∧ N ≤ 16 := by
      rcases Nat.le_total n W with g | g
      · exact ⟨W, g, by omega, Or.inr rfl, by omega⟩
      · exact ⟨n, by omega, g, Or.inl rfl, by omega⟩
    refine nm_e ⟨4, 56, by decide, by decide, ?_⟩
    refine pd_pad hx n1 n2 n3 n4 hL hf (by decide) (by decide) (fun a1 h1 _ => ⟨3, 36, by decide, by decide, ?_⟩)
    refine pd_plain hx hx2 h0 n1 n2 n3 n4 hL (by decide) (by decide) (fun a2 h2 _ => ?_)
    exact sv_equals (by omega) (fun j hj => (h1 j hj).2.trans (h2 j hj).2.symm) ⟨hB, hp⟩
theorem i_vc (xs : Nat → Int32) (L : Nat) (hL : L ≤ 3) : wpL_law (fun r => r = 1) L xs :=
  pd_cell 0 (by decide) hL (fun r1 => pd_cell 1 (by decide) hL (fun r2 => pd_cell 2 (by decide) hL (fun r3 => ⟨19, 296, by decide, by decide, pd_law (post := fun r _ => r = 1) rfl r1 r2 r3⟩)))
end
