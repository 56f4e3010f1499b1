section
theorem sv_length {post : Int32 → Prop} {h z : Int32} {a : Nat → Int32} {n : Nat} (hp : post (nI n)) : wpJ0_length_8abf5_6a20e post (0, h, z, a, n) :=
  ⟨by decide, Eq.mpr (congrArg post (sb_shr0 (Int32.ofNat n))) hp⟩
theorem sb_copyOf {post : StJefc9b → Prop} {mc ms : Nat} {a : Nat → Int32} {m q : Nat} (h : m < q) (hq : q ≤ 65536) (hf : sb_Fit a) (hmc : 1 ≤ mc) (hms : q ≤ ms)
    (hp : post (a, m, va_cpy a (fun _ => 0) 0 0 m, q)) : wpJ7_copyOf_9075b_9260e post mc ms (a, m) (nI q) := by
  have ei : (if nI q < Int32.ofNat m then nI q else Int32.ofNat m) = nI m := if_neg (nI_nlt (by omega) (by omega))
  have ec : (nI m).toNatClampNeg = m := nI_clamp (by omega)
  refine br_f (fun z => by have := (nI_eq (by omega) (by omega)).mp (show nI q = nI m from z); omega) ⟨nI_pos (by omega), nm_r (nI_clamp (by omega)) ⟨by omega, hmc, by omega, ?_⟩⟩
  rw [ei, ec, sb_cl0]
  exact ⟨by decide, by decide, nI_pos (by omega), by omega, by omega, fun i _ => hf _, nm_e hp⟩
theorem sb_ensure {post : StJ4ec0e → Prop} {mc ms : Nat} {ml z : Int32} {a : Nat → Int32} {m q : Nat} (hm : m ≤ 65536) (hq : q < 2 ^ 28) (hf : sb_Fit a) (hr : sb_Room q m mc ms)
    (hp : ∀ a', sb_Fit a' → (∀ j, j < m → a' j = a j) → post (0, ml, z, a', sb_cap q m)) : wpJ5_ensureCapacityInternal_d00df_b0715 post mc ms (0, ml, z, a, m) (nI q) := by
  have e1 : (nI q - Int32.ofNat m).toInt = (q : Int) - m := pk_sub_toInt (by omega) (by omega)
  refine nm_r (sb_shr0 (Int32.ofNat m)) ?_
  by_cases h : q ≤ m
  · refine br_t (by rw [Int32.le_iff_toInt_le, e1, Int32.toInt_zero]; omega) ?_
    have h9 := hp a hf (fun _ _ => rfl)
    rw [sb_cap, if_pos h] at h9
    exact h9
  · have hr' : 1 ≤ mc ∧ sb_cap q m ≤ ms ∧ sb_cap q m ≤ 65536 := hr.resolve_left h
    have hc : sb_cap q m = m + (if q - m < m + 2 then m + 2 else q - m) := by
      unfold sb_cap
      rw [if_neg h]
      split <;> split <;> omega
    have hg := sb_cap_ge q m
    refine br_f (fun hc => h (by rw [Int32.le_iff_toInt_le, e1, Int32.toInt_zero] at hc; omega)) ?_
    have e2 : Int32.ofNat m + ((2 : Int32) <<< ((0 : Int32) &&& 31)) = nI (m + 2) := by
      rw [sb_shl0]
      exact nI_add m 2
    have e3 : Int32.ofNat m + (if nI (q - m) < nI (m + 2) then nI (m + 2) else nI (q - m)) = nI (sb_cap q m) := by
      rw [hc]
      by_cases h2 : q - m < m + 2
      · rw [if_pos h2, if_pos (nI_lt h2 (by omega))]
        exact nI_add m (m + 2)
      · rw [if_neg h2, if_neg (nI_nlt (by omega) (by omega))]
        exact nI_add m (q - m)
    refine nm_e (nm_r (sb_shl0 (nI q)) (nm_r (show nI q - nI m = nI (q - m) from pk_sub (by omega)) ?_))
    rw [e2]
    refine nm_r e3 (br_f (nI_nle (by omega) (by omega)) (br_f (show ¬ nI 2147483639 < nI (sb_cap q m) from nI_nlt (by omega) (by decide)) ?_))
    refine br_f (fun z9 => by have := (nI_eq (by omega) (by decide)).mp (show nI (sb_cap q m) = nI 2147483647 from z9); omega) ?_
    rw [sb_shr0]
    refine ⟨mc, ms, by omega, by omega, ?_⟩
    rw [sb_shl0]
    exact sb_copyOf (by omega) hr'.2.2 hf hr'.1 hr'.2.1 (hp _ (sb_fitC hf sb_fit0) (fun j hj => sb_cpy0 hj))
theorem sb_appendChar {post : StJ4ec0e → Prop} {mc ms : Nat} {ml : Int32} {t : Nat → Nat} {a : Nat → Int32} {n m c : Nat} (hnm : n ≤ m) (hm : m ≤ 65536) (hL : sb_Lat t n a) (hf : sb_Fit a) (hc : c < 256) (hr : sb_Room (n + 1) m mc ms)
    (hp : ∀ a', sb_Lat (sb_cat t n (fun _ => c)) (n + 1) a' → sb_Fit a' → post (0, ml, nI (n + 1), a', sb_cap (n + 1) m)) : wpJ4_append_cf468_b0715 post mc ms (0, ml, nI n, a, m) (nI c) := by
  have hg := sb_cap_ge (n + 1) m
  have hl := sb_cap_le hm hr
  refine ⟨mc, ms, by omega, by omega, mc, ms, by omega, by omega, ?_⟩
  rw [nI_1]
  refine sb_ensure hm (by omega) hf hr (fun a' hf' hk => ?_)
  refine br_t rfl (br_f (by decide) ?_)
  refine br_f (show ¬ nI 255 < nI c from nI_nlt (by omega) (by decide)) (br_f (by decide) ?_)
  refine nm_r (nI_1 n) ⟨vp_in_nI (by omega) (by omega), nm_r (e' := upd a' n (sb_b c)) (by rw [nI_clamp (by omega), pk_vb]; rfl) ?_⟩
  refine hp _ (sb_latPut hL (fun j hj => ?_) (fun i hi => ?_)) (sb_fitU hf' (sb_fitB c))
  · rw [pk_un (by omega)]
    exact hk j (by omega)
  · obtain rfl : i = 0 := by omega
    exact ⟨hc, pk_us⟩
theorem sb_copyRange {post : StJefc9b → Prop} {mc ms : Nat} {a : Nat → Int32} {n m : Nat} (hnm : n ≤ m) (hm : m ≤ 65536) (hf : sb_Fit a) (hmc : 1 ≤ mc) (hms : n ≤ ms)
    (hp : ∀ a', sb_Fit a' → (∀ j, j < n → a' j = a j) → post (a, m, a', n)) : wpJ7_copyOfRange_39247_f5dda post mc ms (a, m) 0 (nI n) := by
  refine br_t rfl (pk_eq n m (fun e => ?_) (fun e => ?_))
  · subst e
    exact ⟨fun i _ => hf i, hmc, by omega, hp a hf (fun _ _ => rfl)⟩
  · have ei : (if nI n < (Int32.ofNat m - 0) then nI n else (Int32.ofNat m - 0)) = nI n := by
      rw [show Int32.ofNat m - 0 = nI m from pk_sub (a := m) (b := 0) (by omega)]
      exact if_pos (nI_lt (by omega) (by omega))
    refine ⟨mc, ms, by omega, by omega, br_t (nI_pos' (by omega)) (nm_r (e' := nI n) (pk_sub (a := n) (b := 0) (by omega)) ⟨nI_pos (by omega), nm_r (nI_clamp (by omega)) ⟨by omega, hmc, by omega, ?_⟩⟩)⟩
    rw [ei, nI_clamp (n := n) (by omega), sb_cl0]
    exact ⟨by decide, by decide, nI_pos (by omega), by omega, by omega, fun i _ => hf _, nm_e (hp _ (sb_fitC hf sb_fit0) (fun j hj => sb_cpy0 hj))⟩
theorem sb_toString {post : StJ9c5ae → Prop} {mc ms : Nat} {ml : Int32} {t : Nat → Nat} {a : Nat → Int32} {n m : Nat} (hnm : n ≤ m) (hm : m ≤ 65536) (hL : sb_Lat t n a) (hf : sb_Fit a) (hmc : 2 ≤ mc) (hms : n + 4 ≤ ms)
    (hp : ∀ a', sb_Lat t n a' → sb_Fit a' → post (0, ml, nI n, a, m, 0, 0, 0, a', n)) : wpJ4_toString_0e30d_76c3d post mc ms (0, ml, nI n, a, m) := by
  refine ⟨by omega, by omega, mc - 1, ms - 4, by omega, by omega, mc - 1, ms - 4, by omega, by omega, br_t rfl (br_f (by decide) ⟨mc - 1, ms - 4, by omega, by omega, ?_⟩)⟩
  exact sb_copyRange hnm hm hf (by omega) (by omega) (fun a' hf' hk => hp a' (sb_latKeep hL hk) hf')
theorem sv_check {post : Unit → Prop} {i n : Nat} (hi : i < n) (hn : n < 2 ^ 31) (hp : post ()) : wpJ0_checkIndex_df160_48e5c post () (nI i) (nI n) :=
  ⟨br_f (nI_pos (by omega)) (br_t (nI_lt hi hn) hp), br_f (nI_pos (by omega)) (br_t (nI_lt hi hn) hp)⟩
theorem sv_charAt {post : Int32 → Prop} {h z : Int32} {t : Nat → Nat} {a : Nat → Int32} {n i : Nat} (hn : n ≤ 65536) (hL : sb_Lat t n a) (hi : i < n) (hp : post (nI (t i))) : wpJ0_charAt_5068e_f8cf6 post (0, h, z, a, n) (nI i) := by
  obtain ⟨h1, h2⟩ := hL i hi
  obtain ⟨b1, b2, -⟩ := sb_byte _ h1
  have hc := (pk_charN (q := t i) (by omega)).1
  refine br_t rfl (br_f (by decide) ?_)
  rw [wpJ1_charAt_3b067_49ada]
  refine sv_check hi (by omega) ⟨vp_in_nI hi (by omega), ?_⟩
  rw [nI_clamp (by omega), h2, b1, b2]
  exact ⟨hc, hc, hp⟩
theorem sv_compress {P : Int32 → StJbedf7 → Prop} {t : Nat → Nat} {b : Nat → Int32} {n : Nat} (hn : n ≤ 65536) (ht : ∀ j, j < n → t j < 256 ∧ b j = nI (t j)) (hP : ∀ a', sb_Lat t n a' → sb_Fit a' → P (nI n) (b, n, a', n)) :
    ∀ (d k : Nat) (a : Nat → Int32), k + d = n → sb_Lat t k a → sb_Fit a → wJ2_compress_fe38e_1fd7f_3 P (nI n) n n (d + 1) (nI k) (nI k) (nI k) b a := by
  intro d
  induction d with
  | zero =>
    intro k a hk hL hf
    rw [wJ2_compress_fe38e_1fd7f_3]
    refine br_t ((nI_leI (by omega) (by omega)).mpr (by omega)) (hP a ?_ hf)
    rw [← show k = n by omega]
    exact hL
  | succ d ih =>
    intro k a hk hL hf
    obtain ⟨b1, b2⟩ := ht k (by omega)
    obtain ⟨-, -, b3⟩ := sb_byte _ b1
    rw [wJ2_compress_fe38e_1fd7f_3]
    refine br_f (nI_ge (by omega) (by omega)) ⟨vp_in_nI (by omega) (by omega), nm_r (e' := nI (t k)) (by rw [nI_clamp (by omega), b2]) (br_t b3 ⟨vp_in_nI (by omega) (by omega), ?_⟩)⟩
    refine nm_r (e' := upd a k (sb_b (t k))) (by rw [nI_clamp (by omega), pk_vb]; rfl) (nm_r (nI_1 k) (nm_r (nI_1 k) (nm_r (nI_1 k) ?_)))
    refine ih (k + 1) _ (by omega) (fun j hj => ?_) (sb_fitU hf (sb_fitB _))
    by_cases e : j = k
    · subst e
      exact ⟨b1, pk_us⟩
    · rw [pk_un e]
      exact hL j (by omega)
theorem sv_equals {post : Int32 → Prop} {h z h' z' : Int32} {a a' : Nat → Int32} {n : Nat} (hn : n ≤ 65536) (he : ∀ j, j < n → a j = a' j) (hp : post 1) : wpJ0_equals_9ea2d_d3b40 post (0, h, z, a, n, 0, h', z', a', n) := by
  have L : ∀ (P : Int32 → Prop), P 1 → ∀ (d k : Nat), k + d = n → wJ1_equals_b5fdf_9f0d2_9 P a n a' n (d + 1) (nI k) := by
    intro P h1 d
    induction d with
    | zero =>
      intro k hk
      rw [wJ1_equals_b5fdf_9f0d2_9]
      exact br_t ((nI_leI (by omega) (by omega)).mpr (by omega)) h1
    | succ d ih =>
      intro k hk
      rw [wJ1_equals_b5fdf_9f0d2_9]
      refine br_f (nI_ge (by omega) (by omega)) ⟨vp_in_nI (by omega) (by omega), vp_in_nI (by omega) (by omega), br_t ?_ (nm_r (nI_1 k) (ih (k + 1) (by omega)))⟩
      rw [nI_clamp (by omega)]
      exact he k (by omega)
  exact br_t rfl (br_t rfl ⟨n + 1, L _ (br_f (by decide) hp) n 0 (by omega)⟩)
end
section
/-- a sign made visible -/
def sk_v (c : Nat) : Nat := if c < 32 ∨ (127 ≤ c ∧ c < 160) then 63 else c
theorem sk_v_c {c : Nat} (h : c < 32 ∨ (127 ≤ c ∧ c < 160)) : sk_v c = 63 := if_pos h
theorem sk_v_n {c : Nat} (h : ¬ (c < 32 ∨ (127 ≤ c ∧ c < 160))) : sk_v c = c := if_neg h
theorem sk_v_lt {c : Nat} (h : c < 256) : sk_v c < 256 := by
  unfold sk_v
  split <;> omega
theorem sk_next {T : Nat → Nat} {k : Nat} {a : Nat → Int32} (h : sb_Lat (sb_cat T k (fun _ => T k)) (k + 1) a) : sb_Lat T (k + 1) a := by
  intro j hj
  have h9 := h j hj
  by_cases e : j < k
  · rw [sb_cat_lo e] at h9
    exact h9
  · obtain rfl : j = k := by omega
    have e2 : sb_cat T j (fun _ => T j) j = T j := sb_cat_hi (t := T) (s := fun _ => T j) (n := j) (j := 0)
    rw [e2] at h9
    exact h9
/-- StringBuilder.append(char) while the first 16 places last -/
theorem sk_append {post : StJ4ec0e → Prop} {ml : Int32} {T : Nat → Nat} {a : Nat → Int32} {k : Nat} (hk : k < 16) (hL : sb_Lat T k a) (hf : sb_Fit a) (hc : T k < 256)
    (hp : ∀ a', sb_Lat T (k + 1) a' → sb_Fit a' → post (0, ml, nI (k + 1), a', 16)) : wpJ4_append_cf468_b0715 post 0 0 (0, ml, nI k, a, 16) (nI (T k)) := by
  refine sb_appendChar (by omega) (by omega) hL hf hc (Or.inl (by omega)) (fun a' h1 h2 => ?_)
  rw [show sb_cap (k + 1) 16 = 16 from if_pos (by omega)]
  exact hp a' (sk_next h1) h2
/-- new String(char[]) of n Latin-1 letters, n not 0 -/
theorem sk_new {post : (StJ0f59a ⊕ StJ64b40) → Prop} {mc ms : Nat} {c h z : Int32} {t : Nat → Nat} {b : Nat → Int32} {n : Nat} (h0 : 0 < n) (hn : n ≤ 65536) (ht : ∀ j, j < n → t j < 256 ∧ b j = nI (t j)) (hmc : 1 ≤ mc) (hms : n ≤ ms)
    (hp : ∀ a', sb_Lat t n a' → sb_Fit a' → post (.inl (0, h, z, a', n, b, n))) : wpJ0_init_905df_fc072 post mc ms (c, h, z, b, n) := by
  refine ⟨mc, ms, by omega, by omega, br_f (nI_ne0 h0 (by omega)) ⟨mc, ms, by omega, by omega, nI_pos (by omega), nm_r (nI_clamp (by omega)) ⟨by omega, hmc, by omega, n + 1, ?_⟩⟩⟩
  refine sv_compress hn ht (fun a' hL hf => ?_) n 0 _ (by omega) (fun j hj => absurd hj (Nat.not_lt_zero j)) sb_fit0
  refine br_t rfl ⟨pk_nb _, ?_⟩
  have e1 : (((Int32.ofNat n - Int32.ofNat n).toUInt32 >>> ((31 : Int32).toUInt32 &&& Int32.toUInt32 31)).toInt32).toInt8.toInt32 = 0 := by
    rw [Int32.sub_self]
    decide
  rw [e1]
  exact ⟨by decide, by decide, hp a' hL hf⟩
/-- new String(char[]) of none -/
theorem sk_new0 {post : (StJ0f59a ⊕ StJ64b40) → Prop} {mc ms : Nat} {c h z : Int32} {b : Nat → Int32}
    (hp : post (.inr (0, h, z, b, 0))) : wpJ0_init_905df_fc072 post mc ms (c, h, z, b, 0) :=
  ⟨mc, ms, by omega, by omega, br_t rfl hp⟩
/-- StringLatin1.inflate into a char[] -/
theorem sk_inflate {P : StJ0dc2b → Prop} {t : Nat → Nat} {a : Nat → Int32} {n : Nat} (hn : n ≤ 65536) (hL : sb_Lat t n a) (hP : ∀ c, (∀ j, j < n → c j = nI (t j)) → P (a, n, c, n)) :
    ∀ (d k : Nat) (c : Nat → Int32), k + d = n → (∀ j, j < k → c j = nI (t j)) → wJ1_inflate_03870_7f7be_3 P (nI n) n n (d + 1) (nI k) (nI k) (nI k) a c := by
  intro d
  induction d with
  | zero =>
    intro k c hk hc
    obtain rfl : k = n := by omega
    rw [wJ1_inflate_03870_7f7be_3]
    exact br_t ((nI_leI (by omega) (by omega)).mpr (by omega)) (hP c hc)
  | succ d ih =>
    intro k c hk hc
    obtain ⟨h1, h2⟩ := hL k (by omega)
    obtain ⟨b1, b2, -⟩ := sb_byte _ h1
    rw [wJ1_inflate_03870_7f7be_3]
    refine br_f (nI_ge (by omega) (by omega)) (nm_r (nI_1 k) (nm_r (nI_1 k) ⟨vp_in_nI (by omega) (by omega), vp_in_nI (by omega) (by omega), ?_⟩))
    refine nm_r (e' := upd c k (nI (t k))) (by rw [nI_clamp (by omega), pk_vc, h2, b1, b2]) (nm_r (nI_1 k) ?_)
    refine ih (k + 1) _ (by omega) (fun j hj => ?_)
    by_cases e : j = k
    · subst e
      exact pk_us
    · rw [pk_un e]
      exact hc j (by omega)
/-- String.toCharArray of a Latin-1 text -/
theorem sk_toChars {post : StJ0f59a → Prop} {mc ms : Nat} {h z : Int32} {t : Nat → Nat} {a : Nat → Int32} {n : Nat} (hn : n ≤ 65536) (hL : sb_Lat t n a) (hmc : 1 ≤ mc) (hms : n ≤ ms)
    (hp : ∀ c, (∀ j, j < n → c j = nI (t j)) → post (0, h, z, a, n, c, n)) : wpJ0_toCharArray_70df3_e59ac post mc ms (0, h, z, a, n) := by
  refine br_t rfl (br_f (by decide) ⟨mc, ms, by omega, by omega, nI_pos (by omega), nm_r (nI_clamp (by omega)) ⟨by omega, hmc, by omega, n + 1, ?_⟩⟩)
  exact sk_inflate hn hL (fun c hc => hp c hc) n 0 _ (by omega) (fun j hj => absurd hj (Nat.not_lt_zero j))
/-- Character.isISOControl(char) -/
theorem sk_iso {post : Int32 → Prop} {c : Nat} (hc : c < 256) (h1 : (c < 32 ∨ (127 ≤ c ∧ c < 160)) → post 1) (h0 : ¬ (c < 32 ∨ (127 ≤ c ∧ c < 160)) → post 0) : wpJ11_isISOControl_fc78d_565d2 post () (nI c) := by
  refine pk_lt 159 c (fun h => ⟨by decide, h0 (by omega)⟩) (fun h => pk_le 127 c (fun h2 => ⟨by decide, h1 (by omega)⟩) (fun h2 => ?_))
  exact pk_eq (c / 2 ^ 5) 0 (fun e => ⟨by decide, h1 (by omega)⟩) (fun e => ⟨by decide, h0 (by omega)⟩) (pk_ushrN (by omega) 5 5 (by decide)) rfl (by omega) (by omega)
end
section
theorem sk_raw44 {post : (St1 ⊕ St2) → Prop} {mc ms : Nat} {J : Int32 → (Nat → Int32) → Prop} {x0 x1 x3 z0 : Int32} {k kc ks n : Nat} {am : Nat → Int32} (hk : k < n) (hn : n ≤ 7) (hJ : ∀ c, c < 256 → J (nI (k + 1)) (upd am k (nI c))) :
    wL_raw_44 post mc ms J x0 x1 x3 (nI k) z0 kc ks am n := by
  obtain ⟨c, hc, ec⟩ := pk_andE z0 8 (m := 255) (by decide)
  obtain ⟨d, hd, ed⟩ := pk_andE (nI c) 6 (m := 63) (by decide)
  refine nm_r ec (br_c (fun _ => ⟨vp_in_nI hk (by omega), ?_⟩) (fun _ => ⟨vp_in_nI hk (by omega), ?_⟩))
  · exact nm_r (e' := upd am k (nI c)) (by rw [nI_clamp (by omega), (sb_byte c hc).2.1]) (nm_r (nI_1 k) (hJ c hc))
  · exact nm_r (e' := upd am k (nI (120 + d))) (by rw [nI_clamp (by omega), ed, show (120 : Int32) + nI d = nI (120 + d) from nI_add 120 d, (sb_byte (120 + d) (by omega)).2.1]) (nm_r (nI_1 k) (hJ (120 + d) (by omega)))
/-- every place below k is a Latin-1 letter -/
def sk_C (k : Nat) (a : Nat → Int32) : Prop := ∀ j, j < k → (a j).toNatClampNeg < 256 ∧ a j = nI (a j).toNatClampNeg
theorem sk_C_put {k c : Nat} {a : Nat → Int32} (h : sk_C k a) (hc : c < 256) : sk_C (k + 1) (upd a k (nI c)) := by
  intro j hj
  by_cases e : j = k
  · subst e
    rw [pk_us, nI_clamp (by omega)]
    exact ⟨hc, rfl⟩
  · rw [pk_un e]
    exact h j (by omega)
theorem sk_raw11 {post : (St1 ⊕ St2) → Prop} {mc ms kc ks : Nat} {x0 x1 x3 : Int32} {n : Nat} (hn : n ≤ 7) (hmc : kc + 2 ≤ mc) (hms : ks + 11 ≤ ms) (h0 : post (.inr (0, 0, 0)))
    (h1 : ∀ (t : Nat → Nat) (m : Nat) (a : Nat → Int32), m ≤ 7 → sb_Lat t m a → sb_Fit a → post (.inl (0, 0, 0, a, m))) :
    ∀ (d k : Nat) (am : Nat → Int32), k + d = n → sk_C k am → wL_raw_11 post mc ms x0 x1 x3 kc ks n (d + 1) (nI k) am := by
  intro d
  induction d with
  | zero =>
    intro k am hk hC
    obtain rfl : k = n := by omega
    rw [wL_raw_11]
    refine br_t ((nI_leI (by omega) (by omega)).mpr (by omega)) ⟨by omega, by omega, 1, 7, by omega, by omega, ?_⟩
    rcases Nat.eq_zero_or_pos k with e | e
    · subst e
      exact sk_new0 h0
    · exact sk_new (t := fun j => (am j).toNatClampNeg) e (by omega) hC (by omega) (by omega) (fun a' hL hf => h1 _ k a' hn hL hf)
  | succ d ih =>
    intro k am hk hC
    rw [wL_raw_11]
    refine br_f (nI_ge (by omega) (by omega)) (br_c (fun _ => ?_) (fun _ => ?_))
    · exact sk_raw44 (by omega) hn (fun c hc => ih (k + 1) _ (by omega) (sk_C_put hC hc))
    · exact sk_raw44 (by omega) hn (fun c hc => ih (k + 1) _ (by omega) (sk_C_put hC hc))
/-- the law's String: none, or at most 7 Latin-1 letters -/
theorem sk_raw {post : (St1 ⊕ St2) → Prop} {p0 p1 p2 p3 : Int32} (h0 : post (.inr (0, 0, 0)))
    (h1 : ∀ (t : Nat → Nat) (m : Nat) (a : Nat → Int32), m ≤ 7 → sb_Lat t m a → sb_Fit a → post (.inl (0, 0, 0, a, m))) : wpL_raw post 3 18 () p0 p1 p2 p3 := by
  obtain ⟨n, hn, en⟩ := pk_andE p2 3 (m := 7) (by decide)
  unfold wpL_raw
  rw [en]
  refine ⟨nI_pos (by omega), nm_r (nI_clamp (by omega)) ⟨by omega, by omega, by omega, n + 1, ?_⟩⟩
  exact sk_raw11 (by omega) (by omega) (by omega) h0 h1 n 0 _ (by omega) (fun j hj => absurd hj (Nat.not_lt_zero j))
/-- SignKinds' loop -/
theorem sk_x0loop {post : St3 → Prop} {mc ms kc ks : Nat} {h z ml : Int32} {t : Nat → Nat} {a c : Nat → Int32} {n : Nat} (hn : n ≤ 7) (hmc : kc + 2 ≤ mc) (hms : ks + n + 4 ≤ ms) (ht : ∀ j, j < n → t j < 256) (hc : ∀ j, j < n → c j = nI (t j))
    (hp : ∀ b, sb_Lat (fun j => sk_v (t j)) n b → post (0, h, z, a, n, 0, 0, 0, b, n)) :
    ∀ (d k : Nat) (b : Nat → Int32), k + d = n → sb_Lat (fun j => sk_v (t j)) k b → sb_Fit b → wX0_visible_19 post mc ms (nI n) (d + 1) (nI k) kc ks 0 h z a n 0 ml (nI k) b 16 c n := by
  intro d
  induction d with
  | zero =>
    intro k b hk hL hf
    obtain rfl : k = n := by omega
    rw [wX0_visible_19]
    refine br_t ((nI_leI (by omega) (by omega)).mpr (by omega)) ⟨2, k + 4, by omega, by omega, ?_⟩
    exact sb_toString (by omega) (by omega) hL hf (by omega) (by omega) (fun b' hL' _ => hp b' hL')
  | succ d ih =>
    intro k b hk hL hf
    have hk9 : k < n := by omega
    have hv : sk_v (t k) < 256 := sk_v_lt (ht k hk9)
    rw [wX0_visible_19]
    refine br_f (nI_ge (by omega) (by omega)) ⟨vp_in_nI (by omega) (by omega), nm_r (e' := nI (t k)) (by rw [nI_clamp (by omega), hc k hk9]) ?_⟩
    have J : wX0_visible_47 post mc ms (wX0_visible_19 post mc ms (nI n) (d + 1)) (nI n) (nI k) (nI (sk_v (t k))) kc ks 0 h z a n 0 ml (nI k) b 16 c n :=
      ⟨0, 0, by omega, by omega, sk_append (T := fun j => sk_v (t j)) (by omega) hL hf hv (fun b' h1 h2 => nm_r (nI_1 k) (ih (k + 1) b' (by omega) h1 h2))⟩
    refine sk_iso (ht k hk9) (fun q => br_f (by decide) ?_) (fun q => br_t rfl ?_)
    · rw [sk_v_c q] at J
      exact J
    · rw [sk_v_n q] at J
      exact J
/-- SignKinds.visible -/
theorem sk_x0 {post : St3 → Prop} {h z : Int32} {t : Nat → Nat} {a : Nat → Int32} {n : Nat} (hn : n ≤ 7) (hL : sb_Lat t n a)
    (hp : ∀ b, sb_Lat (fun j => sk_v (t j)) n b → post (0, h, z, a, n, 0, 0, 0, b, n)) : wpX0_visible post 5 38 (0, h, z, a, n) := by
  refine ⟨by omega, by omega, 1, 16, by omega, by omega, 1, 16, by omega, by omega, by decide, nm_r (e' := 16) (by decide) ⟨by omega, by omega, by omega, 1, n, by omega, by omega, ?_⟩⟩
  refine sk_toChars (by omega) hL (by omega) (by omega) (fun c hc => nm_e ⟨n + 1, ?_⟩)
  exact sk_x0loop hn (by omega) (by omega) (fun j hj => (hL j hj).1) hc hp n 0 _ (by omega) (fun j hj => absurd hj (Nat.not_lt_zero j)) sb_fit0
/-- SignKindsPlain's loop -/
theorem sk_x1loop {post : St3 → Prop} {mc ms kc ks : Nat} {h z ml : Int32} {t : Nat → Nat} {a : Nat → Int32} {n : Nat} (hn : n ≤ 7) (hmc : kc + 2 ≤ mc) (hms : ks + n + 4 ≤ ms) (hT : sb_Lat t n a)
    (hp : ∀ b, sb_Lat (fun j => sk_v (t j)) n b → post (0, h, z, a, n, 0, 0, 0, b, n)) :
    ∀ (d k : Nat) (b : Nat → Int32), k + d = n → sb_Lat (fun j => sk_v (t j)) k b → sb_Fit b → wX1_visible_10 post mc ms (d + 1) (nI k) kc ks 0 h z a n 0 ml (nI k) b 16 := by
  intro d
  induction d with
  | zero =>
    intro k b hk hL hf
    obtain rfl : k = n := by omega
    rw [wX1_visible_10]
    refine sv_length (br_t ((nI_leI (by omega) (by omega)).mpr (by omega)) ⟨2, k + 4, by omega, by omega, ?_⟩)
    exact sb_toString (by omega) (by omega) hL hf (by omega) (by omega) (fun b' hL' _ => hp b' hL')
  | succ d ih =>
    intro k b hk hL hf
    have hk9 : k < n := by omega
    have ht : t k < 256 := (hT k hk9).1
    have hv : sk_v (t k) < 256 := sk_v_lt ht
    rw [wX1_visible_10]
    have J : wX1_visible_62 post mc ms (wX1_visible_10 post mc ms (d + 1)) (nI k) (nI (sk_v (t k))) kc ks 0 h z a n 0 ml (nI k) b 16 :=
      ⟨0, 0, by omega, by omega, sk_append (T := fun j => sk_v (t j)) (by omega) hL hf hv (fun b' h1 h2 => nm_r (nI_1 k) (ih (k + 1) b' (by omega) h1 h2))⟩
    refine sv_length (br_f (nI_ge (by omega) (by omega)) (sv_charAt (by omega) hT hk9 ?_))
    by_cases q : t k < 32 ∨ (127 ≤ t k ∧ t k < 160)
    · rw [sk_v_c q] at J
      refine pk_lt (t k) 32 (fun g => ?_) (fun g => pk_le (t k) 126 (fun g2 => absurd q (by omega)) (fun g2 => ?_))
      · exact pk_lt (t k) 160 (fun _ => br_t rfl J) (fun g3 => absurd q (by omega))
      · exact pk_lt (t k) 160 (fun _ => br_t rfl J) (fun g3 => absurd q (by omega))
    · rw [sk_v_n q] at J
      refine pk_lt (t k) 32 (fun g => absurd (Or.inl g) q) (fun g => pk_le (t k) 126 (fun g2 => br_f (by decide) J) (fun g2 => ?_))
      exact pk_lt (t k) 160 (fun g3 => absurd (Or.inr ⟨by omega, g3⟩) q) (fun g3 => br_f (by decide) J)
/-- SignKindsPlain.visible -/
theorem sk_x1 {post : St3 → Prop} {h z : Int32} {t : Nat → Nat} {a : Nat → Int32} {n : Nat} (hn : n ≤ 7) (hL : sb_Lat t n a)
    (hp : ∀ b, sb_Lat (fun j => sk_v (t j)) n b → post (0, h, z, a, n, 0, 0, 0, b, n)) : wpX1_visible post 4 31 (0, h, z, a, n) := by
  refine ⟨by omega, by omega, 1, 16, by omega, by omega, 1, 16, by omega, by omega, by decide, nm_r (e' := 16) (by decide) ⟨by omega, by omega, by omega, n + 1, ?_⟩⟩
  exact sk_x1loop hn (by omega) (by omega) hL hp n 0 _ (by omega) (fun j hj => absurd hj (Nat.not_lt_zero j)) sb_fit0
/-- SignKinds.visible of the empty constant -/
theorem sk_x0e {post : St4 → Prop} {h z : Int32} (hp : ∀ b, post (0, h, z, 0, 0, 0, b, 0)) : wpX0_visible_2 post 5 38 (0, h, z) := by
  refine ⟨by omega, by omega, 1, 16, by omega, by omega, 1, 16, by omega, by omega, by decide, nm_r (e' := 16) (by decide) ⟨by omega, by omega, by omega, 1, 0, by omega, by omega, ?_⟩⟩
  refine br_t rfl (br_f (by decide) ⟨1, 0, by omega, by omega, by decide, by decide, nm_r (e' := 0) (by decide) ⟨by omega, by omega, by omega, 1, ?_⟩⟩)
  refine br_t (by decide) (nm_e ⟨1, br_t (by decide) ⟨2, 4, by omega, by omega, ?_⟩⟩)
  exact sb_toString (t := fun _ => 0) (n := 0) (by omega) (by omega) (fun j hj => absurd hj (Nat.not_lt_zero j)) sb_fit0 (by omega) (by omega) (fun b _ _ => hp b)
/-- SignKindsPlain.visible of the empty constant -/
theorem sk_x1e {post : St4 → Prop} {h z : Int32} (hp : ∀ b, post (0, h, z, 0, 0, 0, b, 0)) : wpX1_visible_2 post 4 31 (0, h, z) := by
  refine ⟨by omega, by omega, 1, 16, by omega, by omega, 1, 16, by omega, by omega, by decide, nm_r (e' := 16) (by decide) ⟨by omega, by omega, by omega, 1, ?_⟩⟩
  refine ⟨by decide, br_t (by decide) ⟨2, 4, by omega, by omega, ?_⟩⟩
  exact sb_toString (t := fun _ => 0) (n := 0) (by omega) (by omega) (fun j hj => absurd hj (Nat.not_lt_zero j)) sb_fit0 (by omega) (by omega) (fun b _ _ => hp b)
end
section
theorem sk_cell {post : Int32 → Prop} {L : Nat} {xs : Nat → Int32} (k : Nat) (hL : L ≤ 4) (hk : k < 4) (h : ∀ r, post r) : wpL_cellAt post L xs () (nI k) :=
  pk_le L k (fun _ => h 0) (fun q => ⟨vp_in_nI q (by omega), h _⟩)
theorem sk_lawOf {post : Int32 → St0 → Prop} {p0 p1 p2 p3 : Int32} (hp : post 1 ()) : wpL_lawOf post 20 320 () p0 p1 p2 p3 := by
  refine ⟨3, 18, by omega, by omega, sk_raw ⟨5, 38, by omega, by omega, ?_⟩ (fun t n a hn hL hf => ⟨5, 38, by omega, by omega, ?_⟩)⟩
  · refine sk_x0e (fun b => ⟨4, 31, by omega, by omega, sk_x1e (fun b' => ?_)⟩)
    exact sv_equals (by omega) (fun j hj => absurd hj (Nat.not_lt_zero j)) ⟨by decide, hp⟩
  · refine sk_x0 hn hL (fun b hb => ⟨4, 31, by omega, by omega, sk_x1 hn hL (fun b' hb' => ?_)⟩)
    exact sv_equals (by omega) (fun j hj => (hb j hj).2.trans (hb' j hj).2.symm) ⟨by decide, hp⟩
theorem i_vc (xs : Nat → Int32) (L : Nat) (hL : L ≤ 4) : wpL_law (fun r => r = 1) L xs :=
  sk_cell 0 hL (by omega) (fun _ => sk_cell 1 hL (by omega) (fun _ => sk_cell 2 hL (by omega) (fun _ => sk_cell 3 hL (by omega) (fun _ => ⟨20, 320, by omega, by omega, sk_lawOf rfl⟩))))
end
