section
/-! new String(char[]) and String.equals, of n Latin-1 letters (n not 0): rows of kit/laws/STRINGBUILDER-LAWS.1 turned to this claim's two-way answer of the constructor -/
theorem rs_compress {P : Int32 → StJbedf7 → Prop} {t : Nat → Nat} {b : Nat → Int32} {n : Nat} (hn : n ≤ 65536) (ht : ∀ j, j < n → t j < 256 ∧ b j = nI (t j)) (hP : ∀ a', sb_Lat t n a' → P (nI n) (b, n, a', n)) :
    ∀ (d k : Nat) (a : Nat → Int32), k + d = n → sb_Lat t k a → wJ2_compress_fe38e_1fd7f_3 P (nI n) n n (d + 1) (nI k) (nI k) (nI k) b a := by
  intro d
  induction d with
  | zero =>
    intro k a hk hL
    rw [wJ2_compress_fe38e_1fd7f_3]
    refine br_t ((nI_leI (by omega) (by omega)).mpr (by omega)) (hP a ?_)
    rw [← show k = n by omega]
    exact hL
  | succ d ih =>
    intro k a hk hL
    obtain ⟨b1, b2⟩ := ht k (by omega)
    obtain ⟨-, -, b3⟩ := sb_byte _ b1
    rw [wJ2_compress_fe38e_1fd7f_3]
    refine br_f (nI_ge (by omega) (by omega)) ⟨vp_in_nI (by omega) (by omega), nm_r (e' := nI (t k)) (by rw [nI_clamp (by omega), b2]) (br_t b3 ⟨vp_in_nI (by omega) (by omega), ?_⟩)⟩
    refine nm_r (e' := upd a k (sb_b (t k))) (by rw [nI_clamp (by omega), pk_vb]; rfl) (nm_r (nI_1 k) (nm_r (nI_1 k) (nm_r (nI_1 k) ?_)))
    refine ih (k + 1) _ (by omega) (fun j hj => ?_)
    by_cases e : j = k
    · subst e
      exact ⟨b1, pk_us⟩
    · rw [pk_un e]
      exact hL j (by omega)
/-- new String(char[]) of n Latin-1 letters, n not 0 -/
theorem rs_new {post : (StJ0f59a ⊕ StJ64b40) → Prop} {mc ms : Nat} {c h z : Int32} {t : Nat → Nat} {b : Nat → Int32} {n : Nat} (h0 : 0 < n) (hn : n ≤ 65536) (ht : ∀ j, j < n → t j < 256 ∧ b j = nI (t j)) (hmc : 1 ≤ mc) (hms : n ≤ ms)
    (hp : ∀ a', sb_Lat t n a' → post (.inl (0, h, z, a', n, b, n))) : wpJ0_init_905df_fc072 post mc ms (c, h, z, b, n) := by
  refine ⟨mc, ms, by omega, by omega, br_f (nI_ne0 h0 (by omega)) ⟨mc, ms, by omega, by omega, nI_pos (by omega), nm_r (nI_clamp (by omega)) ⟨by omega, hmc, by omega, n + 1, ?_⟩⟩⟩
  refine rs_compress hn ht (fun a' hL => ?_) n 0 _ (by omega) (fun j hj => absurd hj (Nat.not_lt_zero j))
  refine br_t rfl ⟨pk_nb _, ?_⟩
  have e1 : (((Int32.ofNat n - Int32.ofNat n).toUInt32 >>> ((31 : Int32).toUInt32 &&& Int32.toUInt32 31)).toInt32).toInt8.toInt32 = 0 := by
    rw [Int32.sub_self]
    decide
  rw [e1]
  exact ⟨by decide, by decide, hp a' hL⟩
/-- String.equals of two Strings with the same bytes -/
theorem rs_equals {post : Int32 → Prop} {h z h' z' : Int32} {a a' : Nat → Int32} {n : Nat} (hn : n ≤ 65536) (he : ∀ j, j < n → a j = a' j) (hp : post 1) : wpJ0_equals_9ea2d_d3b40 post (0, h, z, a, n, 0, h', z', a', n) := by
  have L : ∀ (P : Int32 → Prop), P 1 → ∀ (d k : Nat), k + d = n → wJ1_equals_b5fdf_9f0d2_9 P a n a' n (d + 1) (nI k) := by
    intro P h1 d
    induction d with
    | zero =>
      intro k hk
      rw [wJ1_equals_b5fdf_9f0d2_9]
      exact br_t ((nI_leI (by omega) (by omega)).mpr (by omega)) h1
    | succ d ih =>
      intro k hk
      rw [wJ1_equals_b5fdf_9f0d2_9]
      refine br_f (nI_ge (by omega) (by omega)) ⟨vp_in_nI (by omega) (by omega), vp_in_nI (by omega) (by omega), br_t ?_ (nm_r (nI_1 k) (ih (k + 1) (by omega)))⟩
      rw [nI_clamp (by omega)]
      exact he k (by omega)
  exact br_t rfl (br_t rfl ⟨n + 1, L _ (br_f (by decide) hp) n 0 (by omega)⟩)
end
section
/-! the pure picture: the signs of the law, a part reversed, one swap -/
/-- what the law's i-th sign is -/
def rs_sg (x : Int32) (i : Nat) : Nat := (x.toUInt32 >>> ((4 * nI i).toUInt32 &&& Int32.toUInt32 31)).toInt32.toBitVec.toNat % 2 ^ 8
theorem rs_sg_lt (x : Int32) (i : Nat) : rs_sg x i < 256 := Nat.mod_lt _ (by decide)
theorem rs_sg_eq (x : Int32) (i : Nat) : (((x.toUInt32 >>> ((4 * nI i).toUInt32 &&& Int32.toUInt32 31)).toInt32 &&& 255).toUInt32 % 65536).toInt32 = nI (rs_sg x i) := by
  rw [pk_and _ (m := 255) 8 (by decide)]
  exact (sb_byte _ (rs_sg_lt x i)).2.1
theorem rs_put {T : Nat → Nat} {a : Nat → Int32} {p : Nat} {x : Int32} (hm : ∀ j, j < p → a j = nI (T j)) (e : x = nI (T p)) : ∀ j, j < p + 1 → upd a p x j = nI (T j) := by
  intro j hj
  by_cases h : j = p
  · subst h
    rw [pk_us]
    exact e
  · rw [pk_un h]
    exact hm j (by omega)
theorem rs_vc {q : Nat} (h : q < 256) : vp_nar .char (nI q) = nI q := by
  unfold vp_nar
  rw [(pk_charN (show q < 65536 by omega)).1]
/-- t with the places i .. e - 1 reversed -/
def rs_rev (t : Nat → Nat) (i e k : Nat) : Nat := if i ≤ k ∧ k < e then t (i + e - 1 - k) else t k
/-- t with the places i and e - 1 exchanged -/
def rs_sw (t : Nat → Nat) (i e k : Nat) : Nat := if k = e - 1 then t i else if k = i then t (e - 1) else t k
theorem rs_rev_0 {t : Nat → Nat} {i e : Nat} (h : e ≤ i + 1) : rs_rev t i e = t := by
  funext k
  unfold rs_rev
  split
  · exact congrArg t (by omega)
  · rfl
theorem rs_rev_sw {t : Nat → Nat} {i e : Nat} (h : i + 1 < e) : rs_rev (rs_sw t i e) (i + 1) (e - 1) = rs_rev t i e := by
  funext k
  unfold rs_rev rs_sw
  (repeat' split) <;> exact congrArg t (by omega)
theorem rs_rev_lt {t : Nat → Nat} {i e n : Nat} (he : e ≤ n) (h : ∀ j, j < n → t j < 256) : ∀ j, j < n → rs_rev t i e j < 256 := by
  intro j hj
  unfold rs_rev
  split
  · exact h _ (by omega)
  · exact h j hj
theorem rs_rev_out {t : Nat → Nat} {i e k : Nat} (h : ¬ (i ≤ k ∧ k < e)) : rs_rev t i e k = t k := if_neg h
theorem rs_rev_in {t : Nat → Nat} {i e k : Nat} (h : i ≤ k ∧ k < e) : rs_rev t i e k = t (i + e - 1 - k) := if_pos h
theorem rs_sw_ok {t : Nat → Nat} {a : Nat → Int32} {n i e : Nat} (hi : i < n) (he : e - 1 < n) (h : ∀ j, j < n → t j < 256 ∧ a j = nI (t j)) :
    ∀ j, j < n → rs_sw t i e j < 256 ∧ upd (upd a i (nI (t (e - 1)))) (e - 1) (nI (t i)) j = nI (rs_sw t i e j) := by
  intro j hj
  unfold rs_sw
  by_cases h1 : j = e - 1
  · rw [if_pos h1, h1, pk_us]
    exact ⟨(h i hi).1, rfl⟩
  · rw [if_neg h1, pk_un h1]
    by_cases h2 : j = i
    · rw [if_pos h2, h2, pk_us]
      exact ⟨(h _ he).1, rfl⟩
    · rw [if_neg h2, pk_un h2]
      exact h j hj
theorem rs_le {e i : Nat} (he : e ≤ 65536) (hi : i ≤ 65536) : nI e - 1 ≤ nI i ↔ e ≤ i + 1 := by
  have h := pk_sub_toInt (a := e) (b := 1) (by omega) (by omega)
  rw [show (1 : Int32) = nI 1 from rfl, Int32.le_iff_toInt_le, h, nI_toInt (by omega)]
  omega
theorem rs_m1 {e : Nat} (h : 1 ≤ e) : nI e - 1 = nI (e - 1) := pk_sub (a := e) (b := 1) h
theorem rs_dn (x : Int32) : x + (-1) = x - 1 := (Int32.sub_eq_add_neg x 1).symm
theorem rs_ix {f e k : Nat} (h1 : f ≤ k) (h2 : k < e) : nI f + nI e - 1 - nI k = nI (f + e - 1 - k) := by
  rw [nI_add, rs_m1 (by omega), pk_sub (by omega)]
end
section
/-! the walks: signs, the two reversedPart, the law's last loop -/
theorem rs_signs6 {post : St1 → Prop} {mc ms kc ks n : Nat} {x0 : Int32} (hn : n ≤ 65536) (hp : ∀ a, (∀ j, j < n → a j = nI (rs_sg x0 j)) → post (a, n)) :
    ∀ (d k : Nat) (a : Nat → Int32), k + d = n → (∀ j, j < k → a j = nI (rs_sg x0 j)) → wL_signs_6 post mc ms x0 (nI n) kc ks n (d + 1) (nI k) a := by
  intro d
  induction d with
  | zero =>
    intro k a hk ha
    obtain rfl : k = n := by omega
    rw [wL_signs_6]
    exact br_t ((nI_leI (by omega) (by omega)).mpr (by omega)) (hp a ha)
  | succ d ih =>
    intro k a hk ha
    rw [wL_signs_6]
    refine br_f (nI_ge (by omega) (by omega)) ⟨vp_in_nI (by omega) (by omega), ?_⟩
    exact nm_r (e' := upd a k (nI (rs_sg x0 k))) (by rw [nI_clamp (by omega), rs_sg_eq]) (nm_r (nI_1 k) (ih (k + 1) _ (by omega) (rs_put ha rfl)))
theorem rs_signs {post : St1 → Prop} {mc ms n : Nat} {x0 : Int32} (hn : n ≤ 65536) (hmc : 1 ≤ mc) (hms : n ≤ ms) (hp : ∀ a, (∀ j, j < n → a j = nI (rs_sg x0 j)) → post (a, n)) : wpL_signs post mc ms () x0 (nI n) :=
  ⟨nI_pos (by omega), nm_r (nI_clamp (by omega)) ⟨by omega, hmc, by omega, n + 1, rs_signs6 hn hp n 0 _ (by omega) (fun j hj => absurd hj (Nat.not_lt_zero j))⟩⟩
/-- the class's loop: two hands that meet -/
theorem rs_x7 {post : (St2 ⊕ St3) → Prop} {mc ms n : Nat} (h0 : 0 < n) (hn : n ≤ 65536) (hmc : 2 ≤ mc) (hms : 4 + n ≤ ms) :
    ∀ (d i e : Nat) (t : Nat → Nat) (a : Nat → Int32), e ≤ i + d + 1 → e ≤ n → i ≤ n → (∀ j, j < n → t j < 256 ∧ a j = nI (t j)) →
    (∀ a' b, (∀ j, j < n → a' j = nI (rs_rev t i e j)) → sb_Lat (rs_rev t i e) n b → post (.inl (a', n, 0, 0, 0, b, n))) →
    wX0_reversedPart_7 post mc ms 0 0 n (d + 1) (nI i) (nI e - 1) a := by
  have X : ∀ (d i e : Nat) (t : Nat → Nat) (a : Nat → Int32), e ≤ i + 1 → e ≤ n → i ≤ n → (∀ j, j < n → t j < 256 ∧ a j = nI (t j)) →
      (∀ a' b, (∀ j, j < n → a' j = nI (rs_rev t i e j)) → sb_Lat (rs_rev t i e) n b → post (.inl (a', n, 0, 0, 0, b, n))) →
      wX0_reversedPart_7 post mc ms 0 0 n (d + 1) (nI i) (nI e - 1) a := by
    intro d i e t a h he hi ht hp
    rw [rs_rev_0 h] at hp
    rw [wX0_reversedPart_7]
    exact br_t ((rs_le (by omega) (by omega)).mpr h) ⟨by omega, by omega, 1, n, by omega, by omega, rs_new h0 hn ht (by omega) (by omega) (fun b hL => hp a b (fun j hj => (ht j hj).2) hL)⟩
  intro d
  induction d with
  | zero =>
    intro i e t a h he hi ht hp
    exact X 0 i e t a (by omega) he hi ht hp
  | succ d ih =>
    intro i e t a h he hi ht hp
    by_cases hc : e ≤ i + 1
    · exact X (d + 1) i e t a hc he hi ht hp
    · have g := ih (i + 1) (e - 1) (rs_sw t i e) (upd (upd a i (nI (t (e - 1)))) (e - 1) (nI (t i))) (by omega) (by omega) (by omega) (rs_sw_ok (by omega) (by omega) ht) (by rw [rs_rev_sw (by omega)]; exact hp)
      rw [rs_m1 (by omega), wX0_reversedPart_7]
      refine br_f (nI_ge (by omega) (by omega)) ⟨vp_in_nI (by omega) (by omega), nm_r (e' := nI (t i)) (by rw [nI_clamp (by omega)]; exact (ht i (by omega)).2) ⟨vp_in_nI (by omega) (by omega), vp_in_nI (by omega) (by omega), ?_⟩⟩
      refine nm_r (e' := upd a i (nI (t (e - 1)))) (by rw [nI_clamp (by omega), nI_clamp (by omega), (ht (e - 1) (by omega)).2, rs_vc (ht (e - 1) (by omega)).1]) ⟨vp_in_nI (by omega) (by omega), ?_⟩
      exact nm_r (e' := upd (upd a i (nI (t (e - 1)))) (e - 1) (nI (t i))) (by rw [nI_clamp (by omega), rs_vc (ht i (by omega)).1]) (nm_r (nI_1 i) (nm_r (rs_dn _) g))
/-- the class's reversedPart -/
theorem rs_x {post : (St2 ⊕ St3) → Prop} {mc ms n f e : Nat} {t : Nat → Nat} {a : Nat → Int32} (h0 : 0 < n) (hn : n ≤ 65536) (hf : f ≤ n) (he : e ≤ n) (hmc : 2 ≤ mc) (hms : 4 + n ≤ ms) (ht : ∀ j, j < n → t j < 256 ∧ a j = nI (t j))
    (hp : ∀ a' b, (∀ j, j < n → a' j = nI (rs_rev t f e j)) → sb_Lat (rs_rev t f e) n b → post (.inl (a', n, 0, 0, 0, b, n))) : wpX0_reversedPart post mc ms (a, n) (nI f) (nI e) :=
  nm_e ⟨e + 1, rs_x7 h0 hn hmc hms e f e t a (by omega) he hf ht hp⟩
/-- the twin's second loop: back into cs, then new String(out) -/
theorem rs_y69 {post : (St2 ⊕ St3) → Prop} {mc ms kc ks n : Nat} {T : Nat → Nat} {b : Nat → Int32} (h0 : 0 < n) (hn : n ≤ 65536) (hb : ∀ j, j < n → T j < 256 ∧ b j = nI (T j)) (hmc : kc + 2 ≤ mc) (hms : ks + 4 + n ≤ ms)
    (hp : ∀ a' c, (∀ j, j < n → a' j = nI (T j)) → sb_Lat T n c → post (.inl (a', n, 0, 0, 0, c, n))) :
    ∀ (d k : Nat) (a : Nat → Int32), k + d = n → (∀ j, j < k → a j = nI (T j)) → wX1_reversedPart_69 post mc ms kc ks n n (d + 1) (nI k) a b := by
  intro d
  induction d with
  | zero =>
    intro k a hk ha
    obtain rfl : k = n := by omega
    rw [wX1_reversedPart_69]
    exact br_t ((nI_leI (by omega) (by omega)).mpr (by omega)) ⟨by omega, by omega, 1, k, by omega, by omega, rs_new h0 hn hb (by omega) (by omega) (fun c hL => hp a c ha hL)⟩
  | succ d ih =>
    intro k a hk ha
    obtain ⟨b1, b2⟩ := hb k (by omega)
    rw [wX1_reversedPart_69]
    refine br_f (nI_ge (by omega) (by omega)) ⟨vp_in_nI (by omega) (by omega), vp_in_nI (by omega) (by omega), ?_⟩
    exact nm_r (e' := upd a k (nI (T k))) (by rw [nI_clamp (by omega), b2, rs_vc b1]) (nm_r (nI_1 k) (ih (k + 1) _ (by omega) (rs_put ha rfl)))
/-- the twin's first loop: out filled -/
theorem rs_y8 {post : (St2 ⊕ St3) → Prop} {mc ms kc ks n f e : Nat} {t : Nat → Nat} {a : Nat → Int32} (h0 : 0 < n) (hn : n ≤ 65536) (hf : f ≤ n) (he : e ≤ n) (ht : ∀ j, j < n → t j < 256 ∧ a j = nI (t j)) (hmc : kc + 2 ≤ mc) (hms : ks + 4 + n ≤ ms)
    (hp : ∀ a' c, (∀ j, j < n → a' j = nI (rs_rev t f e j)) → sb_Lat (rs_rev t f e) n c → post (.inl (a', n, 0, 0, 0, c, n))) :
    ∀ (d k : Nat) (b : Nat → Int32), k + d = n → (∀ j, j < k → b j = nI (rs_rev t f e j)) → wX1_reversedPart_8 post mc ms (nI f) (nI e) kc ks n n (d + 1) (nI k) a b := by
  have hT := rs_rev_lt (i := f) he (fun j hj => (ht j hj).1)
  intro d
  induction d with
  | zero =>
    intro k b hk hb
    obtain rfl : k = n := by omega
    rw [wX1_reversedPart_8]
    exact br_t ((nI_leI (by omega) (by omega)).mpr (by omega)) ⟨k + 1, rs_y69 h0 hn (fun j hj => ⟨hT j hj, hb j hj⟩) hmc hms hp k 0 a (by omega) (fun j hj => absurd hj (Nat.not_lt_zero j))⟩
  | succ d ih =>
    intro k b hk hb
    have g := ih (k + 1) (upd b k (nI (rs_rev t f e k))) (by omega) (rs_put hb rfl)
    have P : ¬ (f ≤ k ∧ k < e) → wX1_reversedPart_31 post mc ms (wX1_reversedPart_8 post mc ms (nI f) (nI e) kc ks n n (d + 1)) (nI f) (nI e) (nI k) kc ks a n b n := fun h =>
      br_t rfl ⟨vp_in_nI (by omega) (by omega), vp_in_nI (by omega) (by omega), nm_r (e' := upd b k (nI (rs_rev t f e k))) (by rw [nI_clamp (by omega), (ht k (by omega)).2, rs_vc (ht k (by omega)).1, rs_rev_out h]) (nm_r (nI_1 k) g)⟩
    rw [wX1_reversedPart_8]
    refine br_f (nI_ge (by omega) (by omega)) (pk_lt k f (fun h => P (by omega)) (fun h => pk_le e k (fun h2 => P (by omega)) (fun h2 => br_f (by decide) ?_)))
    rw [rs_ix h h2]
    have hx : f + e - 1 - k < n := by omega
    refine ⟨vp_in_nI hx (by omega), vp_in_nI (by omega) (by omega), nm_r (e' := upd b k (nI (rs_rev t f e k))) ?_ (nm_r (nI_1 k) g)⟩
    rw [nI_clamp (n := k) (by omega), nI_clamp (n := f + e - 1 - k) (by omega), (ht _ hx).2, rs_vc (ht _ hx).1, rs_rev_in ⟨h, h2⟩]
/-- the twin's reversedPart -/
theorem rs_y {post : (St2 ⊕ St3) → Prop} {mc ms n f e : Nat} {t : Nat → Nat} {a : Nat → Int32} (h0 : 0 < n) (hn : n ≤ 65536) (hf : f ≤ n) (he : e ≤ n) (hmc : 3 ≤ mc) (hms : 4 + 2 * n ≤ ms) (ht : ∀ j, j < n → t j < 256 ∧ a j = nI (t j))
    (hp : ∀ a' b, (∀ j, j < n → a' j = nI (rs_rev t f e j)) → sb_Lat (rs_rev t f e) n b → post (.inl (a', n, 0, 0, 0, b, n))) : wpX1_reversedPart post mc ms (a, n) (nI f) (nI e) :=
  ⟨nI_pos (by omega), nm_r (nI_clamp (by omega)) ⟨by omega, by omega, by omega, n + 1, rs_y8 h0 hn hf he ht (by omega) (by omega) hp n 0 _ (by omega) (fun j hj => absurd hj (Nat.not_lt_zero j))⟩⟩
theorem rs_l99 {post : Int32 → St0 → Prop} {mc ms kc ks n : Nat} {a b : Nat → Int32} (hn : n ≤ 65536) (hp : post 1 ()) (hab : ∀ j, j < n → a j = b j) :
    ∀ (d k : Nat), k + d = n → wL_lawOf_99 post mc ms (nI n) kc ks a n b n (d + 1) (nI k) := by
  intro d
  induction d with
  | zero =>
    intro k hk
    rw [wL_lawOf_99]
    exact br_t ((nI_leI (by omega) (by omega)).mpr (by omega)) hp
  | succ d ih =>
    intro k hk
    rw [wL_lawOf_99]
    refine br_f (nI_ge (by omega) (by omega)) ⟨vp_in_nI (by omega) (by omega), vp_in_nI (by omega) (by omega), br_t ?_ (nm_r (nI_1 k) (ih (k + 1) (by omega)))⟩
    rw [nI_clamp (by omega)]
    exact hab k (by omega)
end
section
/-! the law -/
theorem rs_l68 {post : Int32 → St0 → Prop} {mc ms kc ks n f e : Nat} {t : Nat → Nat} {a b : Nat → Int32} (h0 : 0 < n) (hn : n ≤ 7) (hf : f ≤ n) (he : e ≤ n) (hp : post 1 ()) (ha : ∀ j, j < n → t j < 256 ∧ a j = nI (t j)) (hb : ∀ j, j < n → t j < 256 ∧ b j = nI (t j)) (hmc : kc + 5 ≤ mc) (hms : ks + 8 + 3 * n ≤ ms) :
    wL_lawOf_68 post mc ms (nI n) (nI f) (nI e) kc ks a n b n := by
  refine ⟨2, 4 + n, by omega, by omega, rs_x h0 (by omega) hf he (by omega) (by omega) ha (fun a' c ha' hc => ?_)⟩
  refine ⟨3, 4 + 2 * n, by omega, by omega, rs_y h0 (by omega) hf he (by omega) (by omega) hb (fun b' c' hb' hc' => ?_)⟩
  refine rs_equals (by omega) (fun j hj => (hc j hj).2.trans (hc' j hj).2.symm) (br_f (by decide) ⟨n + 1, ?_⟩)
  exact rs_l99 (by omega) hp (fun j hj => (ha' j hj).trans (hb' j hj).symm) n 0 (by omega)
theorem rs_l46 {post : Int32 → St0 → Prop} {mc ms kc ks n f : Nat} {x2 : Int32} {t : Nat → Nat} {a b : Nat → Int32} (h0 : 0 < n) (hn : n ≤ 7) (hf : f ≤ n) (hp : post 1 ()) (ha : ∀ j, j < n → t j < 256 ∧ a j = nI (t j)) (hb : ∀ j, j < n → t j < 256 ∧ b j = nI (t j)) (hmc : kc + 5 ≤ mc) (hms : ks + 8 + 3 * n ≤ ms) :
    wL_lawOf_46 post mc ms x2 (nI n) (nI f) kc ks a n b n := by
  obtain ⟨g, hg, eg⟩ := pk_andE ((x2.toUInt32 >>> ((3 : Int32).toUInt32 &&& Int32.toUInt32 31)).toInt32) 3 (m := 7) (by decide)
  unfold wL_lawOf_46
  rw [eg]
  exact pk_le g n (fun h => rs_l68 h0 hn hf h hp ha hb hmc hms) (fun h => rs_l68 h0 hn hf (Nat.le_refl n) hp ha hb hmc hms)
theorem rs_l15 {post : Int32 → St0 → Prop} {mc ms n : Nat} {x0 x2 : Int32} (h0 : 0 < n) (hn : n ≤ 7) (hp : post 1 ()) (hmc : 7 ≤ mc) (hms : 8 + 5 * n ≤ ms) : wL_lawOf_15 post mc ms x0 x2 (nI n) 0 0 := by
  obtain ⟨f, hf, ef⟩ := pk_andE x2 3 (m := 7) (by decide)
  refine ⟨1, n, by omega, by omega, rs_signs (by omega) (by omega) (by omega) (fun a ha => ?_)⟩
  refine ⟨1, n, by omega, by omega, rs_signs (by omega) (by omega) (by omega) (fun b hb => ?_)⟩
  have ha' : ∀ j, j < n → rs_sg x0 j < 256 ∧ a j = nI (rs_sg x0 j) := fun j hj => ⟨rs_sg_lt x0 j, ha j hj⟩
  have hb' : ∀ j, j < n → rs_sg x0 j < 256 ∧ b j = nI (rs_sg x0 j) := fun j hj => ⟨rs_sg_lt x0 j, hb j hj⟩
  dsimp only
  rw [ef]
  exact pk_le f n (fun h => rs_l46 h0 hn h hp ha' hb' (by omega) (by omega)) (fun h => rs_l46 (f := 0) h0 hn (Nat.zero_le n) hp ha' hb' (by omega) (by omega))
theorem rs_lawOf {post : Int32 → St0 → Prop} {x0 x1 x2 : Int32} (hp : post 1 ()) : wpL_lawOf post 12 192 () x0 x1 x2 := by
  obtain ⟨n, hn, en⟩ := pk_andE x1 3 (m := 7) (by decide)
  unfold wpL_lawOf
  rw [en]
  exact pk_eq n 0 (fun h => rs_l15 (n := 1) (by omega) (by omega) hp (by omega) (by omega)) (fun h => rs_l15 (by omega) (by omega) hp (by omega) (by omega))
theorem rs_cell {post : Int32 → Prop} {L : Nat} {xs : Nat → Int32} (k : Nat) (hk : k < 3) (hL : L ≤ 3) (hp : ∀ r, post r) : wpL_cellAt post L xs () (nI k) :=
  pk_le L k (fun _ => hp _) (fun h => ⟨vp_in_nI h (by omega), hp _⟩)
theorem i_vc (xs : Nat → Int32) (L : Nat) (hL : L ≤ 3) : wpL_law (fun r => r = 1) L xs :=
  rs_cell 0 (by decide) hL (fun _ => rs_cell 1 (by decide) hL (fun _ => rs_cell 2 (by decide) hL (fun _ => ⟨12, 192, by decide, by decide, rs_lawOf rfl⟩)))
end
