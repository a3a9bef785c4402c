section
theorem sb_copyOf {post : StJefc9b → Prop} {mc ms : Nat} {a : Nat → Int32} {m q : Nat} (h : m < q) (hq : q ≤ 65536) (hf : sb_Fit a) (hmc : 1 ≤ mc) (hms : q ≤ ms)
    (hp : post (a, m, va_cpy a (fun _ => 0) 0 0 m, q)) : wpJ7_copyOf_9075b_9260e post mc ms (a, m) (nI q) := by
  have ei : (if nI q < Int32.ofNat m then nI q else Int32.ofNat m) = nI m := if_neg (nI_nlt (by omega) (by omega))
  have ec : (nI m).toNatClampNeg = m := nI_clamp (by omega)
  refine br_f (fun z => by have := (nI_eq (by omega) (by omega)).mp (show nI q = nI m from z); omega) ⟨nI_pos (by omega), nm_r (nI_clamp (by omega)) ⟨by omega, hmc, by omega, ?_⟩⟩
  rw [ei, ec, sb_cl0]
  exact ⟨by decide, by decide, nI_pos (by omega), by omega, by omega, fun i _ => hf _, nm_e hp⟩
theorem sb_ensure {post : StJ4ec0e → Prop} {mc ms : Nat} {ml z : Int32} {a : Nat → Int32} {m q : Nat} (hm : m ≤ 65536) (hq : q < 2 ^ 28) (hf : sb_Fit a) (hr : sb_Room q m mc ms)
    (hp : ∀ a', sb_Fit a' → (∀ j, j < m → a' j = a j) → post (0, ml, z, a', sb_cap q m)) : wpJ5_ensureCapacityInternal_d00df_b0715 post mc ms (0, ml, z, a, m) (nI q) := by
  have e1 : (nI q - Int32.ofNat m).toInt = (q : Int) - m := pk_sub_toInt (by omega) (by omega)
  refine nm_r (sb_shr0 (Int32.ofNat m)) ?_
  by_cases h : q ≤ m
  · refine br_t (by rw [Int32.le_iff_toInt_le, e1, Int32.toInt_zero]; omega) ?_
    have h9 := hp a hf (fun _ _ => rfl)
    rw [sb_cap, if_pos h] at h9
    exact h9
  · have hr' : 1 ≤ mc ∧ sb_cap q m ≤ ms ∧ sb_cap q m ≤ 65536 := hr.resolve_left h
    have hc : sb_cap q m = m + (if q - m < m + 2 then m + 2 else q - m) := by
      unfold sb_cap
      rw [if_neg h]
      split <;> split <;> omega
    have hg := sb_cap_ge q m
    refine br_f (fun hc => h (by rw [Int32.le_iff_toInt_le, e1, Int32.toInt_zero] at hc; omega)) ?_
    have e2 : Int32.ofNat m + ((2 : Int32) <<< ((0 : Int32) &&& 31)) = nI (m + 2) := by
      rw [sb_shl0]
      exact nI_add m 2
    have e3 : Int32.ofNat m + (if nI (q - m) < nI (m + 2) then nI (m + 2) else nI (q - m)) = nI (sb_cap q m) := by
      rw [hc]
      by_cases h2 : q - m < m + 2
      · rw [if_pos h2, if_pos (nI_lt h2 (by omega))]
        exact nI_add m (m + 2)
      · rw [if_neg h2, if_neg (nI_nlt (by omega) (by omega))]
        exact nI_add m (q - m)
    refine nm_e (nm_r (sb_shl0 (nI q)) (nm_r (show nI q - nI m = nI (q - m) from pk_sub (by omega)) ?_))
    rw [e2]
    refine nm_r e3 (br_f (nI_nle (by omega) (by omega)) (br_f (show ¬ nI 2147483639 < nI (sb_cap q m) from nI_nlt (by omega) (by decide)) ?_))
    refine br_f (fun z9 => by have := (nI_eq (by omega) (by decide)).mp (show nI (sb_cap q m) = nI 2147483647 from z9); omega) ?_
    rw [sb_shr0]
    refine ⟨mc, ms, by omega, by omega, ?_⟩
    rw [sb_shl0]
    exact sb_copyOf (by omega) hr'.2.2 hf hr'.1 hr'.2.1 (hp _ (sb_fitC hf sb_fit0) (fun j hj => sb_cpy0 hj))
theorem sb_appendChar {post : StJ4ec0e → Prop} {mc ms : Nat} {ml : Int32} {t : Nat → Nat} {a : Nat → Int32} {n m c : Nat} (hnm : n ≤ m) (hm : m ≤ 65536) (hL : sb_Lat t n a) (hf : sb_Fit a) (hc : c < 256) (hr : sb_Room (n + 1) m mc ms)
    (hp : ∀ a', sb_Lat (sb_cat t n (fun _ => c)) (n + 1) a' → sb_Fit a' → post (0, ml, nI (n + 1), a', sb_cap (n + 1) m)) : wpJ4_append_cf468_b0715 post mc ms (0, ml, nI n, a, m) (nI c) := by
  have hg := sb_cap_ge (n + 1) m
  have hl := sb_cap_le hm hr
  refine ⟨mc, ms, by omega, by omega, mc, ms, by omega, by omega, ?_⟩
  rw [nI_1]
  refine sb_ensure hm (by omega) hf hr (fun a' hf' hk => ?_)
  refine br_t rfl (br_f (by decide) ?_)
  refine br_f (show ¬ nI 255 < nI c from nI_nlt (by omega) (by decide)) (br_f (by decide) ?_)
  refine nm_r (nI_1 n) ⟨vp_in_nI (by omega) (by omega), nm_r (e' := upd a' n (sb_b c)) (by rw [nI_clamp (by omega), pk_vb]; rfl) ?_⟩
  refine hp _ (sb_latPut hL (fun j hj => ?_) (fun i hi => ?_)) (sb_fitU hf' (sb_fitB c))
  · rw [pk_un (by omega)]
    exact hk j (by omega)
  · obtain rfl : i = 0 := by omega
    exact ⟨hc, pk_us⟩
theorem sb_copyRange {post : StJefc9b → Prop} {mc ms : Nat} {a : Nat → Int32} {n m : Nat} (hnm : n ≤ m) (hm : m ≤ 65536) (hf : sb_Fit a) (hmc : 1 ≤ mc) (hms : n ≤ ms)
    (hp : ∀ a', sb_Fit a' → (∀ j, j < n → a' j = a j) → post (a, m, a', n)) : wpJ7_copyOfRange_39247_f5dda post mc ms (a, m) 0 (nI n) := by
  refine br_t rfl (pk_eq n m (fun e => ?_) (fun e => ?_))
  · subst e
    exact ⟨fun i _ => hf i, hmc, by omega, hp a hf (fun _ _ => rfl)⟩
  · have ei : (if nI n < (Int32.ofNat m - 0) then nI n else (Int32.ofNat m - 0)) = nI n := by
      rw [show Int32.ofNat m - 0 = nI m from pk_sub (a := m) (b := 0) (by omega)]
      exact if_pos (nI_lt (by omega) (by omega))
    refine ⟨mc, ms, by omega, by omega, br_t (nI_pos' (by omega)) (nm_r (e' := nI n) (pk_sub (a := n) (b := 0) (by omega)) ⟨nI_pos (by omega), nm_r (nI_clamp (by omega)) ⟨by omega, hmc, by omega, ?_⟩⟩)⟩
    rw [ei, nI_clamp (n := n) (by omega), sb_cl0]
    exact ⟨by decide, by decide, nI_pos (by omega), by omega, by omega, fun i _ => hf _, nm_e (hp _ (sb_fitC hf sb_fit0) (fun j hj => sb_cpy0 hj))⟩
theorem sb_toString {post : StJ9c5ae → Prop} {mc ms : Nat} {ml : Int32} {t : Nat → Nat} {a : Nat → Int32} {n m : Nat} (hnm : n ≤ m) (hm : m ≤ 65536) (hL : sb_Lat t n a) (hf : sb_Fit a) (hmc : 2 ≤ mc) (hms : n + 4 ≤ ms)
    (hp : ∀ a', sb_Lat t n a' → sb_Fit a' → post (0, ml, nI n, a, m, 0, 0, 0, a', n)) : wpJ4_toString_0e30d_76c3d post mc ms (0, ml, nI n, a, m) := by
  refine ⟨by omega, by omega, mc - 1, ms - 4, by omega, by omega, mc - 1, ms - 4, by omega, by omega, br_t rfl (br_f (by decide) ⟨mc - 1, ms - 4, by omega, by omega, ?_⟩)⟩
  exact sb_copyRange hnm hm hf (by omega) (by omega) (fun a' hf' hk => hp a' (sb_latKeep hL hk) hf')
theorem sv_compress {P : Int32 → StJbedf7 → Prop} {t : Nat → Nat} {b : Nat → Int32} {n : Nat} (hn : n ≤ 65536) (ht : ∀ j, j < n → t j < 256 ∧ b j = nI (t j)) (hP : ∀ a', sb_Lat t n a' → sb_Fit a' → P (nI n) (b, n, a', n)) :
    ∀ (d k : Nat) (a : Nat → Int32), k + d = n → sb_Lat t k a → sb_Fit a → wJ2_compress_fe38e_1fd7f_3 P (nI n) n n (d + 1) (nI k) (nI k) (nI k) b a := by
  intro d
  induction d with
  | zero =>
    intro k a hk hL hf
    rw [wJ2_compress_fe38e_1fd7f_3]
    refine br_t ((nI_leI (by omega) (by omega)).mpr (by omega)) (hP a ?_ hf)
    rw [← show k = n by omega]
    exact hL
  | succ d ih =>
    intro k a hk hL hf
    obtain ⟨b1, b2⟩ := ht k (by omega)
    obtain ⟨-, -, b3⟩ := sb_byte _ b1
    rw [wJ2_compress_fe38e_1fd7f_3]
    refine br_f (nI_ge (by omega) (by omega)) ⟨vp_in_nI (by omega) (by omega), nm_r (e' := nI (t k)) (by rw [nI_clamp (by omega), b2]) (br_t b3 ⟨vp_in_nI (by omega) (by omega), ?_⟩)⟩
    refine nm_r (e' := upd a k (sb_b (t k))) (by rw [nI_clamp (by omega), pk_vb]; rfl) (nm_r (nI_1 k) (nm_r (nI_1 k) (nm_r (nI_1 k) ?_)))
    refine ih (k + 1) _ (by omega) (fun j hj => ?_) (sb_fitU hf (sb_fitB _))
    by_cases e : j = k
    · subst e
      exact ⟨b1, pk_us⟩
    · rw [pk_un e]
      exact hL j (by omega)
theorem sv_equals {post : Int32 → Prop} {h z h' z' : Int32} {a a' : Nat → Int32} {n : Nat} (hn : n ≤ 65536) (he : ∀ j, j < n → a j = a' j) (hp : post 1) : wpJ0_equals_9ea2d_d3b40 post (0, h, z, a, n, 0, h', z', a', n) := by
  have L : ∀ (P : Int32 → Prop), P 1 → ∀ (d k : Nat), k + d = n → wJ1_equals_b5fdf_9f0d2_9 P a n a' n (d + 1) (nI k) := by
    intro P h1 d
    induction d with
    | zero =>
      intro k hk
      rw [wJ1_equals_b5fdf_9f0d2_9]
      exact br_t ((nI_leI (by omega) (by omega)).mpr (by omega)) h1
    | succ d ih =>
      intro k hk
      rw [wJ1_equals_b5fdf_9f0d2_9]
      refine br_f (nI_ge (by omega) (by omega)) ⟨vp_in_nI (by omega) (by omega), vp_in_nI (by omega) (by omega), br_t ?_ (nm_r (nI_1 k) (ih (k + 1) (by omega)))⟩
      rw [nI_clamp (by omega)]
      exact he k (by omega)
  exact br_t rfl (br_t rfl ⟨n + 1, L _ (br_f (by decide) hp) n 0 (by omega)⟩)
end
section
/-- new String(char[]) of n Latin-1 letters, n not 0 -/
theorem tx_new {post : (StJ0f59a ⊕ StJ64b40) → Prop} {mc ms : Nat} {c h z : Int32} {t : Nat → Nat} {b : Nat → Int32} {n : Nat} (h0 : 0 < n) (hn : n ≤ 65536) (ht : ∀ j, j < n → t j < 256 ∧ b j = nI (t j)) (hmc : 1 ≤ mc) (hms : n ≤ ms)
    (hp : ∀ a', sb_Lat t n a' → sb_Fit a' → post (.inl (0, h, z, a', n, b, n))) : wpJ0_init_905df_fc072 post mc ms (c, h, z, b, n) := by
  refine ⟨mc, ms, by omega, by omega, br_f (nI_ne0 h0 (by omega)) ⟨mc, ms, by omega, by omega, nI_pos (by omega), nm_r (nI_clamp (by omega)) ⟨by omega, hmc, by omega, n + 1, ?_⟩⟩⟩
  refine sv_compress hn ht (fun a' hL hf => ?_) n 0 _ (by omega) (fun j hj => absurd hj (Nat.not_lt_zero j)) sb_fit0
  refine br_t rfl ⟨pk_nb _, ?_⟩
  have e1 : (((Int32.ofNat n - Int32.ofNat n).toUInt32 >>> ((31 : Int32).toUInt32 &&& Int32.toUInt32 31)).toInt32).toInt8.toInt32 = 0 := by
    rw [Int32.sub_self]
    decide
  rw [e1]
  exact ⟨by decide, by decide, hp a' hL hf⟩
/-- SignTexts.textOf, n not 0 -/
theorem tx_X0 {post : (St2 ⊕ St3) → Prop} {mc ms : Nat} {t : Nat → Nat} {b : Nat → Int32} {n : Nat} (h0 : 0 < n) (hn : n ≤ 65536) (ht : ∀ j, j < n → t j < 256 ∧ b j = nI (t j)) (hmc : 2 ≤ mc) (hms : n + 4 ≤ ms)
    (hp : ∀ a', sb_Lat t n a' → post (.inl (b, n, 0, 0, 0, a', n))) : wpX0_textOf post mc ms (b, n) :=
  ⟨by omega, by omega, 1, n, by omega, by omega, tx_new h0 hn ht (by omega) (by omega) (fun a' hL _ => hp a' hL)⟩
/-- SignTexts.textOf of no sign -/
theorem tx_X0e {post : (St2 ⊕ St3) → Prop} {mc ms : Nat} {b : Nat → Int32} (hmc : 1 ≤ mc) (hms : 4 ≤ ms) (hp : post (.inr (b, 0, 0, 0, 0))) : wpX0_textOf post mc ms (b, 0) :=
  ⟨by omega, by omega, 0, 0, by omega, by omega, 0, 0, by omega, by omega, br_t rfl hp⟩
/-- the loop of SignTextsPlain.textOf -/
theorem tx_10 {post : St2 → Prop} {mc ms kc ks : Nat} {t : Nat → Nat} {b a : Nat → Int32} {n : Nat} (hn : n ≤ 8) (ht : ∀ j, j < n → t j < 256 ∧ b j = nI (t j)) (hmc : kc + 2 ≤ mc) (hms : ks + 4 + n ≤ ms) (hf : sb_Fit a)
    (hp : ∀ a', sb_Lat t n a' → post (b, n, 0, 0, 0, a', n)) : ∃ f, wX1_textOf_10 post mc ms f 0 kc ks b n 0 0 0 a 16 := by
  refine pk_loop (fun f i s => wX1_textOf_10 post mc ms f (nI i) kc ks b n 0 0 (nI i) s 16) (fun i s => sb_Lat t i s ∧ sb_Fit s) n 0 a (by omega) ⟨fun j hj => absurd hj (by omega), hf⟩ ?_ ?_
  · intro f s h
    exact pk_le n n (fun _ => ⟨2, n + 4, by omega, by omega, sb_toString (by omega) (by omega) h.1 h.2 (by omega) (by omega) (fun a' hL _ => hp a' hL)⟩) (fun z => absurd z (by omega))
  · intro f i s hi h hw
    refine pk_le n i (fun z => absurd z (by omega)) (fun _ => ⟨pk_in i n hi, 0, 0, by omega, by omega, ?_⟩)
    rw [nI_clamp (by omega), (ht i hi).2]
    refine sb_appendChar (by omega) (by omega) h.1 h.2 (ht i hi).1 (Or.inl (by omega)) (fun a' hL hf' => ?_)
    rw [show sb_cap (i + 1) 16 = 16 from if_pos (by omega)]
    refine nm_r (nI_1 i) (hw a' ⟨fun j hj => ?_, hf'⟩)
    have h9 := hL j hj
    by_cases e : j < i
    · rw [sb_cat_lo e] at h9
      exact h9
    · have e9 : j = i := by omega
      subst e9
      rw [show sb_cat t j (fun _ => t j) j = t j from sb_cat_hi (j := 0)] at h9
      exact h9
/-- SignTextsPlain.textOf -/
theorem tx_X1 {post : St2 → Prop} {mc ms : Nat} {t : Nat → Nat} {b : Nat → Int32} {n : Nat} (hn : n ≤ 8) (ht : ∀ j, j < n → t j < 256 ∧ b j = nI (t j)) (hmc : 4 ≤ mc) (hms : 24 + n ≤ ms)
    (hp : ∀ a', sb_Lat t n a' → post (b, n, 0, 0, 0, a', n)) : wpX1_textOf post mc ms (b, n) :=
  ⟨by omega, by omega, 1, 16, by omega, by omega, 1, 16, by omega, by omega, by decide, nm_r (e' := 16) (by decide) ⟨by omega, by omega, by omega, tx_10 hn ht (by omega) (by omega) sb_fit0 hp⟩⟩
/-- String.equals of the constant "" and a String of no byte -/
theorem tx_equals0 {post : Int32 → Prop} {h z h' z' : Int32} {a : Nat → Int32} (hp : post 1) : wpJ0_equals_9ea2d_86617 post (0, h, z, 0, h', z', a, 0) :=
  br_t rfl ⟨by decide, br_t rfl ⟨1, by decide, br_t (by decide) (br_f (by decide) hp)⟩⟩
end
section
/-- the law's second loop -/
theorem tx_106 {post : Int32 → St0 → Prop} {mc ms kc ks : Nat} {a b : Nat → Int32} {n : Nat} (hn : n ≤ 8) (he : ∀ j, j < n → a j = b j) (hp : post 1 ()) : ∃ f, wL_lawOf_106 post mc ms (nI n) kc ks a n b n f 0 :=
  pk_loop (σ := Unit) (fun f i _ => wL_lawOf_106 post mc ms (nI n) kc ks a n b n f (nI i)) (fun _ _ => True) n 0 () (by omega) trivial
    (fun f _ _ => pk_le n n (fun _ => hp) (fun z => absurd z (by omega)))
    (fun f i _ hi _ hw => pk_le n i (fun z => absurd z (by omega)) (fun _ => ⟨pk_in i n hi, pk_in i n hi, br_t (by rw [nI_clamp (by omega)]; exact he i hi) (nm_r (nI_1 i) (hw () trivial))⟩))
/-- what the law's first loop keeps: below i the two arrays hold the same Latin-1 signs -/
def tx_K (i : Nat) (a b : Nat → Int32) : Prop := ∀ j, j < i → a j = b j ∧ ∃ c : Nat, c < 256 ∧ a j = nI c
theorem tx_put {i : Nat} {a b : Nat → Int32} {c : Nat} (h : tx_K i a b) (hc : c < 256) : tx_K (i + 1) (upd a i (nI c)) (upd b i (nI c)) := by
  intro j hj
  by_cases e : j = i
  · subst e
    rw [pk_us, pk_us]
    exact ⟨rfl, c, hc, rfl⟩
  · rw [pk_un e, pk_un e]
    exact h j (by omega)
/-- one turn of the law's first loop, behind the choice of the bits -/
theorem tx_55 {post : Int32 → St0 → Prop} {mc ms : Nat} {J : Int32 → (Nat → Int32) → (Nat → Int32) → Prop} {x0 x1 x3 z0 : Int32} {kc ks i n : Nat} {a b : Nat → Int32} (hi : i < n) (hn : n ≤ 8) (h : tx_K i a b)
    (hJ : ∀ a' b', tx_K (i + 1) a' b' → J (nI (i + 1)) a' b') : wL_lawOf_55 post mc ms J x0 x1 x3 (nI i) z0 kc ks a n b n := by
  obtain ⟨c, hc, ec⟩ := pk_andE z0 (m := 255) 8 (by decide)
  have hc' : c < 256 := hc
  have e2 : vp_nar .char (nI c) = nI c := Value.int.inj (pk_charN (q := c) (by omega)).1
  refine ⟨pk_in i n hi, nm_r (e' := upd a i (nI c)) (by rw [nI_clamp (by omega), ec, (sb_byte c hc').2.1]) ⟨pk_in i n hi, pk_in i n hi, nm_r (e' := upd b i (nI c)) (by rw [nI_clamp (by omega), pk_us, e2]) (nm_r (nI_1 i) (hJ _ _ (tx_put h hc')))⟩⟩
/-- the law behind its first loop -/
theorem tx_end {post : Int32 → St0 → Prop} {mc ms : Nat} {x0 x1 : Int32} {f n : Nat} {a b : Nat → Int32} (hn : n ≤ 8) (hmc : 8 ≤ mc) (hms : 80 ≤ ms) (hp : post 1 ()) (h : tx_K n a b) :
    wL_lawOf_24 post mc ms x0 x1 (nI n) 2 (0 + n + n) n n (f + 1) (nI n) a b := by
  have ha : ∀ j, j < n → (a j).toNatClampNeg < 256 ∧ a j = nI (a j).toNatClampNeg := by
    intro j hj
    obtain ⟨_, c, hc, e⟩ := h j hj
    rw [e, nI_clamp (by omega)]
    exact ⟨hc, rfl⟩
  have hb : ∀ j, j < n → (a j).toNatClampNeg < 256 ∧ b j = nI (a j).toNatClampNeg := fun j hj => ⟨(ha j hj).1, (h j hj).1.symm.trans (ha j hj).2⟩
  have he : ∀ j, j < n → a j = b j := fun j hj => (h j hj).1
  refine pk_le n n (fun _ => ⟨2, n + 4, by omega, by omega, ?_⟩) (fun z => absurd z (by omega))
  by_cases h0 : 0 < n
  · refine tx_X0 (t := fun j => (a j).toNatClampNeg) h0 (by omega) ha (by omega) (by omega) (fun a' hL => ?_)
    refine ⟨4, 24 + n, by omega, by omega, ?_⟩
    refine tx_X1 (t := fun j => (a j).toNatClampNeg) hn hb (by omega) (by omega) (fun b' hL' => ?_)
    exact sv_equals (by omega) (fun j hj => (hL j hj).2.trans (hL' j hj).2.symm) (br_f (by decide) (tx_106 hn he hp))
  · obtain rfl : n = 0 := by omega
    refine tx_X0e (by omega) (by omega) ?_
    refine ⟨4, 24, by omega, by omega, ?_⟩
    refine tx_X1 (t := fun j => (a j).toNatClampNeg) hn hb (by omega) (by omega) (fun b' _ => ?_)
    exact tx_equals0 (br_f (by decide) (tx_106 hn he hp))
/-- the law's first loop -/
theorem tx_24 {post : Int32 → St0 → Prop} {mc ms : Nat} {x0 x1 : Int32} {n : Nat} (hn : n ≤ 8) (hmc : 8 ≤ mc) (hms : 80 ≤ ms) (hp : post 1 ()) :
    ∃ f, wL_lawOf_24 post mc ms x0 x1 (nI n) 2 (0 + n + n) n n f 0 (fun _ => 0) (fun _ => 0) :=
  pk_loop (σ := (Nat → Int32) × (Nat → Int32)) (fun f i s => wL_lawOf_24 post mc ms x0 x1 (nI n) 2 (0 + n + n) n n f (nI i) s.1 s.2) (fun i s => tx_K i s.1 s.2) n 0 (fun _ => 0, fun _ => 0) (by omega) (fun j hj => absurd hj (by omega))
    (fun f s h => tx_end hn hmc hms hp h)
    (fun f i s hi h hw => pk_le n i (fun z => absurd z (by omega)) (fun _ => br_c (fun _ => tx_55 hi hn h (fun a' b' h' => hw (a', b') h')) (fun _ => tx_55 hi hn h (fun a' b' h' => hw (a', b') h'))))
/-- lawOf answers 1 -/
theorem tx_lawOf {post : Int32 → St0 → Prop} {x0 x1 x2 : Int32} (hp : post 1 ()) : wpL_lawOf post 14 216 () x0 x1 x2 := by
  obtain ⟨j, hj, ej⟩ := pk_andE x2 (m := 7) 3 (by decide)
  obtain ⟨k, hk, ek⟩ := pk_andE ((x2.toUInt32 >>> ((3 : Int32).toUInt32 &&& Int32.toUInt32 31)).toInt32) (m := 1) 1 (by decide)
  have h8 : j + k ≤ 8 := by omega
  refine nm_r (e' := nI (j + k)) (by rw [ej, ek]; exact nI_add j k) ?_
  refine ⟨nI_pos (by omega), nm_r (nI_clamp (by omega)) ⟨by omega, by omega, by omega, nI_pos (by omega), nm_r (nI_clamp (by omega)) ⟨by omega, by omega, by omega, tx_24 h8 (by omega) (by omega) hp⟩⟩⟩
theorem tx_cell {post : Int32 → Prop} {L : Nat} {xs : Nat → Int32} {i : Nat} (hL : L ≤ 3) (hi : i < 3) (hp : ∀ r, post r) : wpL_cellAt post L xs () (nI i) :=
  pk_le L i (fun _ => hp _) (fun z => ⟨pk_in i L z, hp _⟩)
theorem i_vc (xs : Nat → Int32) (L : Nat) (hL : L ≤ 3) : wpL_law (fun r => r = 1) L xs :=
  tx_cell (i := 0) hL (by omega) (fun _ => tx_cell (i := 1) hL (by omega) (fun _ => tx_cell (i := 2) hL (by omega) (fun _ => ⟨14, 216, by omega, by omega, tx_lawOf rfl⟩)))
end
