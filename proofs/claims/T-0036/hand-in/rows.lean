section
theorem pk_us {f : Nat → Int32} {k : Nat} {x : Int32} : upd f k x k = x := if_pos rfl
theorem pk_un {f : Nat → Int32} {k j : Nat} {x : Int32} (h : j ≠ k) : upd f k x j = f j := if_neg h
theorem pk_sub {a b : Nat} (h : b ≤ a) : nI a - nI b = nI (a - b) := by
  obtain ⟨c, rfl⟩ : ∃ c, a = c + b := ⟨a - b, by omega⟩
  rw [← nI_add, Int32.add_sub_cancel, Nat.add_sub_cancel]
theorem pk_mul (a b : Nat) : nI a * nI b = nI (a * b) := (Int32.ofNat_mul a b).symm
theorem pk_div {a d : Nat} (ha : a < 2 ^ 31) (h0 : 0 < d) (hd : d < 2 ^ 31) : nI a / nI d = nI (a / d) := by
  apply Int32.toInt_inj.mp
  rw [lg_idiv_nonneg (by rw [nI_toInt ha]; omega) (by rw [nI_toInt hd]; omega), nI_toInt ha, nI_toInt hd, nI_toInt (Nat.lt_of_le_of_lt (Nat.div_le_self a d) ha)]
  first | rfl | exact (Int.natCast_ediv _ _).symm
theorem pk_rem {a d : Nat} (ha : a < 2 ^ 31) (h0 : 0 < d) (hd : d < 2 ^ 31) : nI a - nI a / nI d * nI d = nI (a % d) := by
  rw [pk_div ha h0 hd, pk_mul, pk_sub (Nat.div_mul_le_self a d)]
  exact congrArg nI (by have := Nat.div_add_mod' a d; omega)
theorem pk_le {x y : Int32} {A B : Prop} (a b : Nat) (f : a ≤ b → A) (g : b < a → B) (hx : x = nI a := by rfl) (hy : y = nI b := by rfl) (ha : a < 2 ^ 31 := by omega) (hb : b < 2 ^ 31 := by omega) : (x ≤ y → A) ∧ (¬ x ≤ y → B) := by
  subst hx hy
  rw [nI_leI ha hb]
  exact ⟨f, fun z => g (by omega)⟩
theorem pk_lt {x y : Int32} {A B : Prop} (a b : Nat) (f : a < b → A) (g : b ≤ a → B) (hx : x = nI a := by rfl) (hy : y = nI b := by rfl) (ha : a < 2 ^ 31 := by omega) (hb : b < 2 ^ 31 := by omega) : (x < y → A) ∧ (¬ x < y → B) := by
  subst hx hy
  rw [nI_ltI ha hb]
  exact ⟨f, fun z => g (by omega)⟩
theorem pk_eq {x y : Int32} {A B : Prop} (a b : Nat) (f : a = b → A) (g : a ≠ b → B) (hx : x = nI a := by rfl) (hy : y = nI b := by rfl) (ha : a < 2 ^ 31 := by omega) (hb : b < 2 ^ 31 := by omega) : (x = y → A) ∧ (¬ x = y → B) := by
  subst hx hy
  rw [nI_eq ha hb]
  exact ⟨f, g⟩
theorem pk_in {x : Int32} (n N : Nat) (h : n < N) (hx : x = nI n := by rfl) (hN : N < 2 ^ 31 := by omega) : vp_in x N := by
  subst hx
  exact vp_in_nI h hN
theorem pk_cl {x : Int32} (n : Nat) (hx : x = nI n := by rfl) (h : n < 2 ^ 31 := by omega) : x.toNatClampNeg = n := by
  subst hx
  exact nI_clamp h
end
section
/-! the hash in plain terms: one mixing step, a block's round, a block, all blocks, the padded message, its length -/
def ch_st (a b c r : Int32) : Int32 := (((a <<< ((5 : Int32) &&& 31)) ||| ((a.toUInt32 >>> ((27 : Int32).toUInt32 &&& Int32.toUInt32 31)).toInt32)) + (b ^^^ c)) + ((-1640531527) * r)
def ch_in (g : Nat → Int32) (r : Int32) : Nat → Nat → Int32 → Int32 → Int32 × Int32
  | 0, _, a, b => (a, b)
  | d + 1, q, a, b => ch_in g r d (q + 1) b (ch_st a b (g q) r)
def ch_bl (g : Nat → Int32) (c p : Nat) (a b : Int32) : Int32 × Int32 := ch_in g (1 + 1) c p (ch_in g 1 c p a b).1 (ch_in g 1 c p a b).2
def ch_all (g : Nat → Int32) (c : Nat) : Nat → Nat → Int32 → Int32 → Int32 × Int32
  | 0, _, a, b => (a, b)
  | d + 1, p, a, b => ch_all g c d (p + c) (a + (ch_bl g c p a b).1) (b + (ch_bl g c p a b).2)
/-- cell j of the padded message of n cells, T cells long -/
def ch_g (a : Nat → Int32) (n T : Nat) (j : Nat) : Int32 := if j < n then a j else if j = n then 128 else if j = T - 1 then nI n else 0
def ch_T (n c : Nat) : Nat := if (n + 2) % c = 0 then n + 2 else n + 2 + (c - (n + 2) % c)
theorem ch_Tm {n c : Nat} (h1 : 1 ≤ c) (h8 : c ≤ 8) : n + 2 ≤ ch_T n c ∧ ch_T n c < n + 2 + c ∧ ch_T n c % c = 0 := by
  have hc : c = 1 ∨ c = 2 ∨ c = 3 ∨ c = 4 ∨ c = 5 ∨ c = 6 ∨ c = 7 ∨ c = 8 := by omega
  unfold ch_T
  rcases hc with rfl | rfl | rfl | rfl | rfl | rfl | rfl | rfl <;> split <;> omega
theorem ch_Tq {n c : Nat} (h1 : 1 ≤ c) (h8 : c ≤ 8) : ∃ Q : Nat, 0 + Q * c = ch_T n c :=
  ⟨ch_T n c / c, by rw [Nat.zero_add]; exact Nat.div_mul_cancel (Nat.dvd_of_mod_eq_zero (ch_Tm h1 h8).2.2)⟩
theorem ch_Te {n c l : Nat} (h1 : 1 ≤ c) (h8 : c ≤ 8) (hl : l + 1 = ch_T n c) : l % c = c - 1 := by
  have ⟨_, _, h⟩ := ch_Tm (n := n) h1 h8
  rw [← hl] at h
  have hc : c = 1 ∨ c = 2 ∨ c = 3 ∨ c = 4 ∨ c = 5 ∨ c = 6 ∨ c = 7 ∨ c = 8 := by omega
  rcases hc with rfl | rfl | rfl | rfl | rfl | rfl | rfl | rfl <;> omega
theorem ch_Tn {n c l : Nat} (h1 : 1 ≤ c) (h8 : c ≤ 8) (hn : n < l) (hl : l + 1 < ch_T n c) : l % c ≠ c - 1 := by
  have ⟨_, h2, h⟩ := ch_Tm (n := n) h1 h8
  generalize ch_T n c = T at hl h2 h
  have hc : c = 1 ∨ c = 2 ∨ c = 3 ∨ c = 4 ∨ c = 5 ∨ c = 6 ∨ c = 7 ∨ c = 8 := by omega
  rcases hc with rfl | rfl | rfl | rfl | rfl | rfl | rfl | rfl <;> omega
theorem ch_g0 {a : Nat → Int32} {n T j : Nat} (h : j < n) : ch_g a n T j = a j := if_pos h
theorem ch_g1 {a : Nat → Int32} {n T j : Nat} (h : j = n) : ch_g a n T j = 128 := by
  unfold ch_g
  rw [if_neg (by omega), if_pos h]
theorem ch_g2 {a : Nat → Int32} {n T j : Nat} (h : n < j) (e : j = T - 1) : ch_g a n T j = nI n := by
  unfold ch_g
  rw [if_neg (by omega), if_neg (by omega), if_pos e]
theorem ch_g3 {a : Nat → Int32} {n T j : Nat} (h : n < j) (e : j ≠ T - 1) : ch_g a n T j = 0 := by
  unfold ch_g
  rw [if_neg (by omega), if_neg (by omega), if_neg e]
end
section
/-! the component's word: each loop against the plain hash -/
theorem ch_x75 {post : Int32 → Prop} {J49 J66 : Int32 → Int32 → Int32 → Prop} {x1 x4 x5 x9 lim : Int32} {T p c n : Nat} {a : Nat → Int32} (hc : c ≤ 8) (hn : n ≤ 24) (hp : p ≤ 40) (hT : 1 ≤ T) (hT2 : T ≤ 40) : ∀ (d j : Nat) (b0 b1 : Int32), j + d = c → J66 (ch_in (ch_g a n T) x9 d (p + j) b0 b1).1 (ch_in (ch_g a n T) x9 d (p + j) b0 b1).2 (x9 + 1) → wX_word_75 post J49 J66 x1 (nI T) x4 x5 (nI p) x9 (nI c) lim (nI n) a (d + 1) b0 b1 (nI j) := by
  intro d
  induction d with
  | zero =>
    intro j b0 b1 hj h
    exact br_t (nI_le (by omega) (by omega)) (nm_e h)
  | succ d ih =>
    intro j b0 b1 hj h
    have K : ∀ v : Int32, ch_g a n T (p + j) = v → wX_word_149 post J49 J66 (wX_word_75 post J49 J66 x1 (nI T) x4 x5 (nI p) x9 (nI c) lim (nI n) a (d + 1)) x1 (nI T) x4 x5 (nI p) b0 b1 x9 (nI j) v (nI c) lim (nI n) a := by
      intro v hv y ey z ez
      subst ey ez hv
      rw [nI_1]
      exact ih (j + 1) _ _ (by omega) h
    have e1 : nI T - 1 = nI (T - 1) := pk_sub (b := 1) hT
    refine br_f (nI_ge (by omega) (by omega)) (nm_r (nI_add p j) ?_)
    refine pk_le n (p + j) (fun h1 => ?_) (fun h1 => ?_)
    · refine pk_eq (p + j) n (fun h2 => K _ (ch_g1 h2)) (fun h2 => ?_)
      exact pk_eq (p + j) (T - 1) (fun h3 => K _ (ch_g2 (by omega) h3)) (fun h3 => K _ (ch_g3 (by omega) h3)) rfl e1
    · exact ⟨vp_in_nI (by omega) (by omega), nm_r (congrArg a (nI_clamp (by omega))) (K _ (ch_g0 h1))⟩
theorem ch_x66 {post : Int32 → Prop} {J49 : Int32 → Int32 → Int32 → Prop} {x1 x4 x5 lim b0 b1 : Int32} {T p c n : Nat} {a : Nat → Int32} (hc : c ≤ 8) (hn : n ≤ 24) (hp : p ≤ 40) (hT : 1 ≤ T) (hT2 : T ≤ 40) (h : J49 (x4 + (ch_bl (ch_g a n T) c p b0 b1).1) (x5 + (ch_bl (ch_g a n T) c p b0 b1).2) (nI (p + c))) : wX_word_66 post J49 x1 (nI T) x4 x5 (nI p) (nI c) lim (nI n) a 3 b0 b1 1 := by
  refine br_f (by decide) ⟨c + 1, ch_x75 hc hn hp hT hT2 c 0 _ _ (by omega) ?_⟩
  refine br_f (by decide) ⟨c + 1, ch_x75 hc hn hp hT hT2 c 0 _ _ (by omega) ?_⟩
  exact br_t (by decide) (nm_e (nm_e (nm_r (nI_add p c) h)))
theorem ch_x49 {post : Int32 → Prop} {x1 lim : Int32} {T c n : Nat} {a : Nat → Int32} (h1 : 1 ≤ c) (hc : c ≤ 8) (hn : n ≤ 24) (hT : 1 ≤ T) (hT2 : T ≤ 40) : ∀ (d p : Nat) (b0 b1 : Int32), p + d * c = T → ((x1 = 0 → post (ch_all (ch_g a n T) c d p b0 b1).1) ∧ (¬ x1 = 0 → post (ch_all (ch_g a n T) c d p b0 b1).2)) → wX_word_49 post x1 (nI T) (nI c) lim (nI n) a (d + 1) b0 b1 (nI p) := by
  intro d
  induction d with
  | zero =>
    intro p b0 b1 hp h
    exact br_t (nI_le (by omega) (by omega)) h
  | succ d ih =>
    intro p b0 b1 hp h
    have e : p + c + d * c = T := by rw [← hp, Nat.succ_mul]; omega
    have hl : p < T := by omega
    exact br_f (nI_ge hl (by omega)) ⟨3, ch_x66 hc hn (by omega) hT hT2 (ih (p + c) _ _ e h)⟩
theorem ch_x11 {post : Int32 → Prop} {x1 lim : Int32} {c n Q : Nat} {a : Nat → Int32} (h1 : 1 ≤ c) (hc : c ≤ 8) (hn : n ≤ 24) (hQ : 0 + Q * c = ch_T n c) (h : (x1 = 0 → post (ch_all (ch_g a n (ch_T n c)) c Q 0 1732584193 (-271733879)).1) ∧ (¬ x1 = 0 → post (ch_all (ch_g a n (ch_T n c)) c Q 0 1732584193 (-271733879)).2)) : wX_word_11 post x1 (nI c) lim (nI n) a := by
  have ⟨t1, t2, _⟩ := ch_Tm (n := n) h1 hc
  have F : ∀ y : Int32, y = nI (ch_T n c) → ∃ n49 : Nat, wX_word_49 post x1 y (nI c) lim (nI n) a n49 1732584193 (-271733879) 0 := by
    intro y ey
    subst ey
    exact ⟨Q + 1, ch_x49 h1 hc hn (by omega) (by omega) Q 0 _ _ hQ h⟩
  have e2 : nI n + 2 = nI (n + 2) := nI_add n 2
  have hm : (n + 2) % c < c := Nat.mod_lt _ (by omega)
  refine nm_r e2 ⟨nI_ne0 h1 (by omega), nm_r (pk_rem (by omega) (by omega) (by omega)) ?_⟩
  refine pk_eq ((n + 2) % c) 0 (fun h0 => F _ ?_) (fun h0 y ey => F _ ?_)
  · unfold ch_T
    rw [if_pos h0]
  · unfold ch_T
    rw [if_neg h0, ey, pk_sub (Nat.le_of_lt hm), nI_add]
end
section
/-! the reference's word: the padded message is built, then the same loops -/
theorem ch_y131 {post : Int32 → SY → Prop} {J106 J122 : Int32 → Int32 → Int32 → Prop} {x1 x2 x3 x4 x8 fn lim : Int32} {T p c : Nat} {g a m : Nat → Int32} (hT2 : T ≤ 40) (hp : p + c ≤ T) (hm : ∀ j, j < T → m j = g j) : ∀ (d j : Nat) (b0 b1 : Int32), j + d = c → J122 (ch_in g x8 d (p + j) b0 b1).1 (ch_in g x8 d (p + j) b0 b1).2 (x8 + 1) → wY_word_131 post J106 J122 x1 x2 x3 x4 (nI p) x8 fn (nI c) lim a m (d + 1) b0 b1 (nI j) := by
  intro d
  induction d with
  | zero =>
    intro j b0 b1 hj h
    exact br_t (nI_le (by omega) (by omega)) (nm_e h)
  | succ d ih =>
    intro j b0 b1 hj h
    have e : m (nI p + nI j).toNatClampNeg = g (p + j) := by
      rw [nI_add, nI_clamp (by omega)]
      exact hm _ (by omega)
    refine br_f (nI_ge (by omega) (by omega)) ⟨?_, ?_⟩
    · rw [nI_add]
      exact vp_in_nI (by omega) (by omega)
    · rw [e]
      exact nm_e (nm_r (nI_1 j) (ih (j + 1) _ _ (by omega) h))
theorem ch_y122 {post : Int32 → SY → Prop} {J106 : Int32 → Int32 → Int32 → Prop} {x1 x2 x3 x4 fn lim b0 b1 : Int32} {T p c : Nat} {g a m : Nat → Int32} (hT2 : T ≤ 40) (hp : p + c ≤ T) (hm : ∀ j, j < T → m j = g j) (h : J106 (x3 + (ch_bl g c p b0 b1).1) (x4 + (ch_bl g c p b0 b1).2) (nI (p + c))) : wY_word_122 post J106 x1 x2 x3 x4 (nI p) fn (nI c) lim a m 3 b0 b1 1 := by
  refine br_f (by decide) ⟨c + 1, ch_y131 hT2 hp hm c 0 _ _ (by omega) ?_⟩
  refine br_f (by decide) ⟨c + 1, ch_y131 hT2 hp hm c 0 _ _ (by omega) ?_⟩
  exact br_t (by decide) (nm_e (nm_e (nm_r (nI_add p c) h)))
theorem ch_y106 {post : Int32 → SY → Prop} {x1 fn lim : Int32} {T c : Nat} {g a m : Nat → Int32} (h1 : 1 ≤ c) (hT2 : T ≤ 40) (hm : ∀ j, j < T → m j = g j) : ∀ (d p : Nat) (b0 b1 : Int32), p + d * c = T → ((x1 = 0 → post (ch_all g c d p b0 b1).1 (fn, nI c, lim, a, m)) ∧ (¬ x1 = 0 → post (ch_all g c d p b0 b1).2 (fn, nI c, lim, a, m))) → wY_word_106 post x1 (nI T) fn (nI c) lim a m (d + 1) b0 b1 (nI p) := by
  intro d
  induction d with
  | zero =>
    intro p b0 b1 hp h
    exact br_t (nI_le (by omega) (by omega)) h
  | succ d ih =>
    intro p b0 b1 hp h
    have e : p + c + d * c = T := by rw [← hp, Nat.succ_mul]; omega
    have hl : p < T := by omega
    exact br_f (nI_ge hl (by omega)) ⟨3, ch_y122 hT2 (by omega) hm (ih (p + c) _ _ e h)⟩
/-- what the reference's word asks at its end, whatever the message array holds then -/
def ch_E (post : Int32 → SY → Prop) (x1 fn fc lim : Int32) (a : Nat → Int32) (s : Int32 × Int32) : Prop := ∀ m : Nat → Int32, (x1 = 0 → post s.1 (fn, fc, lim, a, m)) ∧ (¬ x1 = 0 → post s.2 (fn, fc, lim, a, m))
theorem ch_y53 {post : Int32 → SY → Prop} {x1 lim : Int32} {c n Q : Nat} {a : Nat → Int32} (h1 : 1 ≤ c) (hc : c ≤ 8) (hn : n ≤ 24) (hQ : 0 + Q * c = ch_T n c) (h : ch_E post x1 (nI n) (nI c) lim a (ch_all (ch_g a n (ch_T n c)) c Q 0 1732584193 (-271733879))) : ∀ (d l : Nat) (m : Nat → Int32), l + d + 1 = ch_T n c → n < l → (∀ j, j < l → m j = ch_g a n (ch_T n c) j) → wY_word_53 post x1 (nI n) (nI c) lim (d + 1) (nI l) a m := by
  have ⟨t1, t2, _⟩ := ch_Tm (n := n) h1 hc
  have ec : nI c - 1 = nI (c - 1) := pk_sub (b := 1) h1
  intro d
  induction d with
  | zero =>
    intro l m hl hnl hm
    have hl' : l + 1 = ch_T n c := hl
    refine And.intro (nI_ne0 h1 (by omega)) (br_t ?_ ⟨vp_in_nI (by omega) (by omega), nm_r (congrArg (fun i => upd m i (nI n)) (nI_clamp (by omega))) (nm_r (nI_1 l) ?_)⟩)
    · rw [pk_rem (by omega) (by omega) (by omega), ec, ch_Te h1 hc hl']
    · rw [hl']
      refine ⟨Q + 1, ch_y106 h1 (by omega) ?_ Q 0 _ _ hQ (h _)⟩
      intro j hj
      by_cases e : j = l
      · subst e
        rw [pk_us, ch_g2 hnl (by omega)]
      · rw [pk_un e]
        exact hm j (by omega)
  | succ d ih =>
    intro l m hl hnl hm
    refine And.intro (nI_ne0 h1 (by omega)) (br_f ?_ ⟨vp_in_nI (by omega) (by omega), nm_r (congrArg (fun i => upd m i 0) (nI_clamp (by omega))) (nm_r (nI_1 l) ?_)⟩)
    · have hlt : l % c < c := Nat.mod_lt _ (by omega)
      rw [pk_rem (by omega) (by omega) (by omega), ec, nI_eq (by omega) (by omega)]
      exact ch_Tn h1 hc hnl (by omega)
    · refine ih (l + 1) _ (by omega) (by omega) ?_
      intro j hj
      by_cases e : j = l
      · subst e
        rw [pk_us, ch_g3 hnl (by omega)]
      · rw [pk_un e]
        exact hm j (by omega)
theorem ch_y13 {post : Int32 → SY → Prop} {x1 lim : Int32} {c n Q : Nat} {a : Nat → Int32} (h1 : 1 ≤ c) (hc : c ≤ 8) (hn : n ≤ 24) (hQ : 0 + Q * c = ch_T n c) (h : ch_E post x1 (nI n) (nI c) lim a (ch_all (ch_g a n (ch_T n c)) c Q 0 1732584193 (-271733879))) : ∀ (d i : Nat) (m : Nat → Int32), i + d = n → (∀ j, j < i → m j = ch_g a n (ch_T n c) j) → wY_word_13 post x1 (nI n) (nI c) lim (d + 1) (nI i) a m := by
  have ⟨t1, t2, _⟩ := ch_Tm (n := n) h1 hc
  intro d
  induction d with
  | zero =>
    intro i m hi hm
    refine br_t (nI_le (by omega) (by omega)) ⟨vp_in_nI (by omega) (by omega), nm_r (congrArg (fun i => upd m i 128) (nI_clamp (by omega))) (nm_r (nI_1 i) ?_)⟩
    refine ⟨ch_T n c - (i + 1) - 1 + 1, ch_y53 h1 hc hn hQ h _ (i + 1) _ (by omega) (by omega) ?_⟩
    intro j hj
    by_cases e : j = i
    · subst e
      rw [pk_us, ch_g1 (by omega)]
    · rw [pk_un e]
      exact hm j (by omega)
  | succ d ih =>
    intro i m hi hm
    refine br_f (nI_ge (by omega) (by omega)) ⟨vp_in_nI (by omega) (by omega), vp_in_nI (by omega) (by omega), nm_r (congrArg (fun i => upd m i (a i)) (nI_clamp (by omega))) (nm_r (nI_1 i) ?_)⟩
    refine ih (i + 1) _ (by omega) ?_
    intro j hj
    by_cases e : j = i
    · subst e
      rw [pk_us, ch_g0 (by omega)]
    · rw [pk_un e]
      exact hm j (by omega)
end
section
/-- one chunk size, one limit, one count, one array of bytes; the reference's message array is free -/
def i_Rel (_ : Nat) (u : SX) (v : SY) : Prop := ∃ (c l n : Nat) (a m : Nat → Int32), (1 ≤ c ∧ c ≤ 8 ∧ l ≤ 24 ∧ n ≤ l) ∧ u = (nI c, nI l, nI n, a) ∧ v = (nI n, nI c, nI l, a, m)
theorem i_up {k : Nat} {u : SX} {v : SY} (h : i_Rel k u v) : i_Rel (k + 2) u v := h
theorem ch_c (x : Int32) : ∃ c : Nat, (1 ≤ c ∧ c ≤ 8) ∧ ((x ≤ 8 → 1 ≤ x → x = nI c) ∧ (¬ x ≤ 8 → nI c = 8) ∧ (¬ 1 ≤ x → nI c = 1)) := by
  by_cases h : x < 0
  · have h1 : x.toInt < 0 := Int32.lt_iff_toInt_lt.mp h
    have a1 : ¬ 1 ≤ x := by
      rw [Int32.le_iff_toInt_le, show (1 : Int32).toInt = 1 from by decide]
      omega
    have a8 : x ≤ 8 := by
      rw [Int32.le_iff_toInt_le, show (8 : Int32).toInt = 8 from by decide]
      omega
    exact ⟨1, by omega, fun _ z => absurd z a1, fun z => absurd a8 z, fun _ => rfl⟩
  · obtain ⟨j, hj, rfl⟩ := nI_of h
    have e1 : (1 : Int32) ≤ nI j ↔ 1 ≤ j := nI_leI (a := 1) (by decide) hj
    have e8 : nI j ≤ (8 : Int32) ↔ j ≤ 8 := nI_leI (b := 8) hj (by decide)
    rw [e1, e8]
    by_cases h1 : 1 ≤ j
    · by_cases h8 : j ≤ 8
      · exact ⟨j, ⟨h1, h8⟩, fun _ _ => rfl, fun z => absurd h8 z, fun z => absurd h1 z⟩
      · exact ⟨8, by omega, fun z => absurd z h8, fun _ => rfl, fun z => absurd h1 z⟩
    · exact ⟨1, by omega, fun _ z => absurd z h1, fun z => absurd (by omega) z, fun _ => rfl⟩
theorem ch_l (x : Int32) : ∃ l : Nat, l ≤ 24 ∧ ((x ≤ 24 → 0 ≤ x → x = nI l) ∧ (¬ x ≤ 24 → nI l = 24) ∧ (¬ 0 ≤ x → nI l = 0)) := by
  by_cases h : x < 0
  · have h1 : x.toInt < 0 := Int32.lt_iff_toInt_lt.mp h
    have a1 : ¬ 0 ≤ x := Int32.not_le.mpr h
    have a8 : x ≤ 24 := by
      rw [Int32.le_iff_toInt_le, show (24 : Int32).toInt = 24 from by decide]
      omega
    exact ⟨0, by omega, fun _ z => absurd z a1, fun z => absurd a8 z, fun _ => rfl⟩
  · obtain ⟨j, hj, rfl⟩ := nI_of h
    have e1 : (0 : Int32) ≤ nI j := nI_pos' hj
    have e8 : nI j ≤ (24 : Int32) ↔ j ≤ 24 := nI_leI (b := 24) hj (by decide)
    rw [e8]
    by_cases h8 : j ≤ 24
    · exact ⟨j, h8, fun _ _ => rfl, fun z => absurd h8 z, fun z => absurd e1 z⟩
    · exact ⟨24, by omega, fun z => absurd z h8, fun _ => rfl, fun z => absurd e1 z⟩
theorem ch_x0 {post : SX → Prop} {x y : Int32} {c l : Nat} (hc : (x ≤ 8 → 1 ≤ x → x = nI c) ∧ (¬ x ≤ 8 → nI c = 8) ∧ (¬ 1 ≤ x → nI c = 1)) (hl : (y ≤ 24 → 0 ≤ y → y = nI l) ∧ (¬ y ≤ 24 → nI l = 24) ∧ (¬ 0 ≤ y → nI l = 0)) (h : post (nI c, nI l, nI 0, fun _ => 0)) : wpX_init post x y := by
  have A : ∀ z : Int32, z = nI c → wX_init_30 post y z 0 0 0 (fun _ => 0) := by
    intro z ez
    subst ez
    refine br_c (fun h0 => br_c (fun h1 => ?_) (fun h1 => ?_)) (fun h0 => br_t (by decide) ?_)
    · have e := hl.1 h1 h0
      show post (nI c, y, 0, fun _ => 0)
      rw [e]
      exact h
    · show post (nI c, 24, 0, fun _ => 0)
      rw [← hl.2.1 h1]
      exact h
    · show post (nI c, 0, 0, fun _ => 0)
      have e := hl.2.2 h0
      rw [e] at h
      exact h
  exact br_c (fun h0 => br_c (fun h1 => A _ (hc.1 h1 h0)) (fun h1 => A _ (hc.2.1 h1).symm)) (fun h0 => br_t (by decide) (A _ (hc.2.2 h0).symm))
theorem ch_y0 {post : SY → Prop} {x y : Int32} {c l : Nat} (hc : (x ≤ 8 → 1 ≤ x → x = nI c) ∧ (¬ x ≤ 8 → nI c = 8) ∧ (¬ 1 ≤ x → nI c = 1)) (hl : (y ≤ 24 → 0 ≤ y → y = nI l) ∧ (¬ y ≤ 24 → nI l = 24) ∧ (¬ 0 ≤ y → nI l = 0)) (h : post (nI 0, nI c, nI l, (fun _ => 0), (fun _ => 0))) : wpY_init post x y := by
  have A : ∀ z : Int32, z = nI c → wY_init_26 post y z 0 0 0 := by
    intro z ez
    subst ez
    refine br_c (fun h0 => br_c (fun h1 => ?_) (fun h1 => ?_)) (fun h0 => ?_)
    · have e := hl.1 h1 h0
      show post (0, nI c, y, (fun _ => 0), (fun _ => 0))
      rw [e]
      exact h
    · show post (0, nI c, 24, (fun _ => 0), (fun _ => 0))
      rw [← hl.2.1 h1]
      exact h
    · show post (0, nI c, 0, (fun _ => 0), (fun _ => 0))
      have e := hl.2.2 h0
      rw [e] at h
      exact h
  exact br_c (fun h0 => br_c (fun h1 => A _ (hc.1 h1 h0)) (fun h1 => A _ (hc.2.1 h1).symm)) (fun h0 => A _ (hc.2.2 h0).symm)
theorem i_vc0 (k0 : Int32) (k1 : Int32) : wpX_init (fun u => wpY_init (fun v => i_Rel 2 u v) k0 k1) k0 k1 := by
  obtain ⟨c, hc, ec⟩ := ch_c k0
  obtain ⟨l, hl, el⟩ := ch_l k1
  refine ch_x0 ec el (ch_y0 ec el ?_)
  exact ⟨c, l, 0, _, _, ⟨hc.1, hc.2, hl, Nat.zero_le _⟩, rfl, rfl⟩
theorem i_vc_update {k : Nat} {u : SX} {v : SY} (I : i_Rel k u v) (hk : k + 2 ≤ 1026) (v1 : Int32) : wpX_update (fun r u' => wpY_update (fun r' v' => r' = r ∧ i_Rel (k + 2) u' v') v v1) u v1 := by
  obtain ⟨c, l, n, a, m, ⟨h1, h2, h3, h4⟩, rfl, rfl⟩ := I
  have R : i_Rel (k + 2) (nI c, nI l, nI n, a) (nI n, nI c, nI l, a, m) := ⟨c, l, n, a, m, ⟨h1, h2, h3, h4⟩, rfl, rfl⟩
  refine br_c (fun p => br_t p ⟨rfl, R⟩) (fun p => br_c (fun q => ?_) (fun q => br_f p (br_f q ⟨rfl, R⟩)))
  refine pk_eq n l (fun e => br_f p (br_t q (br_f (nI_nlt (by omega) (by omega)) ⟨rfl, R⟩))) (fun e => ?_)
  have hi : vp_in (nI n) 24 := vp_in_nI (by omega) (by omega)
  refine ⟨hi, nm_e (nm_r (nI_1 n) (br_f p (br_t q (br_t (nI_lt (by omega) (by omega)) ⟨hi, nm_e (nm_r (nI_1 n) ⟨rfl, ?_⟩)⟩))))⟩
  exact ⟨c, l, n + 1, _, m, ⟨h1, h2, h3, by omega⟩, rfl, rfl⟩
theorem i_vc_word {k : Nat} {u : SX} {v : SY} (I : i_Rel k u v) (hk : k + 2 ≤ 1026) (v1 : Int32) : wpX_word (fun r => wpY_word (fun r' v' => r' = r ∧ i_Rel (k + 2) u v') v v1) u v1 := by
  obtain ⟨c, l, n, a, m, ⟨h1, h2, h3, h4⟩, rfl, rfl⟩ := I
  have R : ∀ m' : Nat → Int32, i_Rel (k + 2) (nI c, nI l, nI n, a) (nI n, nI c, nI l, a, m') := fun m' => ⟨c, l, n, a, m', ⟨h1, h2, h3, h4⟩, rfl, rfl⟩
  obtain ⟨Q, hQ⟩ := ch_Tq (n := n) h1 h2
  have hn : n ≤ 24 := by omega
  refine br_c (fun e => ?_) (fun e => br_c (fun e' => ?_) (fun e' => ?_))
  · subst e
    refine ch_x11 h1 h2 hn hQ (br_t rfl (br_f (by decide) (br_t (by decide) ⟨n + 1, ch_y13 h1 h2 hn hQ (fun m' => br_t rfl ⟨rfl, R m'⟩) n 0 m (by omega) (fun j hj => absurd hj (Nat.not_lt_zero j))⟩)))
  · subst e'
    refine ch_x11 h1 h2 hn hQ (br_f (by decide) (br_f (by decide) (br_t (by decide) ⟨n + 1, ch_y13 h1 h2 hn hQ (fun m' => br_f (by decide) ⟨rfl, R m'⟩) n 0 m (by omega) (fun j hj => absurd hj (Nat.not_lt_zero j))⟩)))
  · refine br_c (fun p => ⟨rfl, R m⟩) (fun p => br_f ?_ ⟨rfl, R m⟩)
    obtain ⟨j, hj, rfl⟩ := nI_of p
    have q0 : j ≠ 0 := fun z => e (by rw [z]; rfl)
    have q1 : j ≠ 1 := fun z => e' (by rw [z]; rfl)
    exact nI_ge (a := 1) (by omega) hj
theorem i_vc_count {k : Nat} {u : SX} {v : SY} (I : i_Rel k u v) (hk : k + 2 ≤ 1026) : wpX_count (fun r => wpY_count (fun r' => r' = r ∧ i_Rel (k + 2) u v) v) u := by
  obtain ⟨c, l, n, a, m, h, rfl, rfl⟩ := I
  exact ⟨rfl, c, l, n, a, m, h, rfl, rfl⟩
theorem i_vc_buffered {k : Nat} {u : SX} {v : SY} (I : i_Rel k u v) (hk : k + 2 ≤ 1026) : wpX_buffered (fun r => wpY_buffered (fun r' => r' = r ∧ i_Rel (k + 2) u v) v) u := by
  obtain ⟨c, l, n, a, m, h, rfl, rfl⟩ := I
  have hz : ¬ nI c = 0 := nI_ne0 (by omega) (by omega)
  exact ⟨hz, hz, rfl, c, l, n, a, m, h, rfl, rfl⟩
theorem i_vc_reset {k : Nat} {u : SX} {v : SY} (I : i_Rel k u v) (hk : k + 2 ≤ 1026) : wpX_reset (fun u' => wpY_reset (fun v' => i_Rel (k + 2) u' v') v) u := by
  obtain ⟨c, l, n, a, m, ⟨h1, h2, h3, h4⟩, rfl, rfl⟩ := I
  exact ⟨c, l, 0, a, m, ⟨h1, h2, h3, Nat.zero_le _⟩, rfl, rfl⟩
end
