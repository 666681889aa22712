section
/-! String(char[]) and String.charAt, Latin-1 (rows of kit/laws/STRINGBUILDER-LAWS.1, turned to this claim's post over a sum) -/
theorem sv_check {post : Unit → Prop} {i n : Nat} (hi : i < n) (hn : n < 2 ^ 31) (hp : post ()) : wpJ0_checkIndex_df160_48e5c post () (nI i) (nI n) :=
  ⟨br_f (nI_pos (by omega)) (br_t (nI_lt hi hn) hp), br_f (nI_pos (by omega)) (br_t (nI_lt hi hn) hp)⟩
/-- String.charAt of a Latin-1 text -/
theorem sv_charAt {post : Int32 → Prop} {h z : Int32} {t : Nat → Nat} {a : Nat → Int32} {n i : Nat} (hn : n ≤ 65536) (hL : sb_Lat t n a) (hi : i < n) (hp : post (nI (t i))) : wpJ0_charAt_5068e_f8cf6 post (0, h, z, a, n) (nI i) := by
  obtain ⟨h1, h2⟩ := hL i hi
  obtain ⟨b1, b2, -⟩ := sb_byte _ h1
  have hc := (pk_charN (q := t i) (by omega)).1
  refine br_t rfl (br_f (by decide) ?_)
  rw [wpJ1_charAt_3b067_49ada]
  refine sv_check hi (by omega) ⟨vp_in_nI hi (by omega), ?_⟩
  rw [nI_clamp (by omega), h2, b1, b2]
  exact ⟨hc, hc, hp⟩
theorem sv_compress {P : Int32 → StJbedf7 → Prop} {t : Nat → Nat} {b : Nat → Int32} {n : Nat} (hn : n ≤ 65536) (ht : ∀ j, j < n → t j < 256 ∧ b j = nI (t j)) (hP : ∀ a', sb_Lat t n a' → sb_Fit a' → P (nI n) (b, n, a', n)) :
    ∀ (d k : Nat) (a : Nat → Int32), k + d = n → sb_Lat t k a → sb_Fit a → wJ2_compress_fe38e_1fd7f_3 P (nI n) n n (d + 1) (nI k) (nI k) (nI k) b a := by
  intro d
  induction d with
  | zero =>
    intro k a hk hL hf
    rw [wJ2_compress_fe38e_1fd7f_3]
    refine br_t ((nI_leI (by omega) (by omega)).mpr (by omega)) (hP a ?_ hf)
    rw [← show k = n by omega]
    exact hL
  | succ d ih =>
    intro k a hk hL hf
    obtain ⟨b1, b2⟩ := ht k (by omega)
    obtain ⟨-, -, b3⟩ := sb_byte _ b1
    rw [wJ2_compress_fe38e_1fd7f_3]
    refine br_f (nI_ge (by omega) (by omega)) ⟨vp_in_nI (by omega) (by omega), nm_r (e' := nI (t k)) (by rw [nI_clamp (by omega), b2]) (br_t b3 ⟨vp_in_nI (by omega) (by omega), ?_⟩)⟩
    refine nm_r (e' := upd a k (sb_b (t k))) (by rw [nI_clamp (by omega), pk_vb]; rfl) (nm_r (nI_1 k) (nm_r (nI_1 k) (nm_r (nI_1 k) ?_)))
    refine ih (k + 1) _ (by omega) (fun j hj => ?_) (sb_fitU hf (sb_fitB _))
    by_cases e : j = k
    · subst e
      exact ⟨b1, pk_us⟩
    · rw [pk_un e]
      exact hL j (by omega)
/-- new String(char[]) of n Latin-1 letters, n not 0: always the left world -/
theorem sg_new {post : (StJ0f59a ⊕ StJ64b40) → Prop} {mc ms : Nat} {c h z : Int32} {t : Nat → Nat} {b : Nat → Int32} {n : Nat} (h0 : 0 < n) (hn : n ≤ 65536) (ht : ∀ j, j < n → t j < 256 ∧ b j = nI (t j)) (hmc : 1 ≤ mc) (hms : n ≤ ms)
    (hp : ∀ a', sb_Lat t n a' → sb_Fit a' → post (.inl (0, h, z, a', n, b, n))) : wpJ0_init_905df_fc072 post mc ms (c, h, z, b, n) := by
  refine ⟨mc, ms, by omega, by omega, br_f (nI_ne0 h0 (by omega)) ⟨mc, ms, by omega, by omega, nI_pos (by omega), nm_r (nI_clamp (by omega)) ⟨by omega, hmc, by omega, n + 1, ?_⟩⟩⟩
  refine sv_compress hn ht (fun a' hL hf => ?_) n 0 _ (by omega) (fun j hj => absurd hj (Nat.not_lt_zero j)) sb_fit0
  refine br_t rfl ⟨pk_nb _, ?_⟩
  have e1 : (((Int32.ofNat n - Int32.ofNat n).toUInt32 >>> ((31 : Int32).toUInt32 &&& Int32.toUInt32 31)).toInt32).toInt8.toInt32 = 0 := by
    rw [Int32.sub_self]
    decide
  rw [e1]
  exact ⟨by decide, by decide, hp a' hL hf⟩
end
section
/-! the class's signAt, the twin's signAt, the law's last loop -/
/-- SignTexts.signAt over n Latin-1 letters: answers the letter at i, the array as it was -/
theorem sg_x0 {post : Int32 → St1 → Prop} {mc ms : Nat} {t : Nat → Nat} {b : Nat → Int32} {n i : Nat} (hi : i < n) (hn : n ≤ 65536) (ht : ∀ j, j < n → t j < 256 ∧ b j = nI (t j)) (hmc : 2 ≤ mc) (hms : n + 4 ≤ ms)
    (hp : post (nI (t i)) (b, n)) : wpX0_signAt post mc ms (b, n) (nI i) := by
  have h1 := (ht i hi).1
  refine ⟨by omega, by omega, mc - 1, ms - 4, by omega, by omega, ?_⟩
  refine sg_new (t := t) (by omega) hn ht (by omega) (by omega) (fun a' hL _ => ?_)
  exact sv_charAt hn hL hi ⟨(pk_charN (by omega)).1, hp⟩
/-- SignTextsPlain.signAt: goes through all places, keeps the one at i -/
theorem sg_x1 {post : Int32 → Prop} {t : Nat → Nat} {b : Nat → Int32} {n i : Nat} (hi : i < n) (hn : n ≤ 65536) (ht : ∀ j, j < n → t j < 256 ∧ b j = nI (t j))
    (hp : post (nI (t i))) : wpX1_signAt post (b, n) (nI i) :=
  pk_loop (fun f k s => wX1_signAt_4 post (nI i) b n f s (nI k)) (fun k s => i < k → s = nI (t i)) n 0 0 (by omega) (fun h => absurd h (by omega))
    (fun f s h => pk_le n n (fun _ => by
      have h1 := (ht i hi).1
      rw [h hi]
      exact ⟨(pk_charN (by omega)).1, hp⟩) (fun z => absurd z (by omega)))
    (fun f k s hk h hw => pk_le n k (fun z => absurd z (by omega)) (fun _ => pk_eq k i
      (fun e => ⟨vp_in_nI hk (by omega), nm_r (e' := nI (t i)) (by rw [nI_clamp (by omega), (ht k hk).2, e]) (nm_r (nI_1 k) (hw _ (fun _ => rfl)))⟩)
      (fun e => nm_r (nI_1 k) (hw _ (fun z => h (by omega))))))
/-- the law's last loop: both arrays are the same below n -/
theorem sg_117 {post : Int32 → St0 → Prop} {mc ms kc ks : Nat} {a b : Nat → Int32} {n : Nat} (hn : n ≤ 65536) (he : ∀ j, j < n → a j = b j) (hp : post 1 ()) : ∃ f, wL_lawOf_117 post mc ms (nI n) kc ks a n b n f 0 :=
  pk_loop (σ := Unit) (fun f k _ => wL_lawOf_117 post mc ms (nI n) kc ks a n b n f (nI k)) (fun _ _ => True) n 0 () (by omega) trivial
    (fun f _ _ => pk_le n n (fun _ => hp) (fun z => absurd z (by omega)))
    (fun f k _ hk _ hw => pk_le n k (fun z => absurd z (by omega)) (fun _ => ⟨vp_in_nI hk (by omega), vp_in_nI hk (by omega), br_t (by rw [nI_clamp (by omega)]; exact he k hk) (nm_r (nI_1 k) (hw () trivial))⟩))
end
section
/-! the law -/
/-- both arrays hold the same n Latin-1 letters -/
def sg_I (n : Nat) (a b : Nat → Int32) : Prop := ∀ j, j < n → ∃ q : Nat, q < 256 ∧ a j = nI q ∧ b j = nI q
theorem sg_vc {q : Nat} (h : q < 256) : vp_nar .char (nI q) = nI q := by
  rw [← (sb_byte q h).2.1]
  exact pk_vc _
/-- one turn of the filling loop -/
theorem sg_55 {post : Int32 → St0 → Prop} {mc ms : Nat} {J : Int32 → (Nat → Int32) → (Nat → Int32) → Prop} {x0 x1 x3 x4 z0 : Int32} {k kc ks n : Nat} {a b : Nat → Int32} (hk : k < n) (hn : n ≤ 8) (h : sg_I k a b)
    (hJ : ∀ a' b', sg_I (k + 1) a' b' → J (nI (k + 1)) a' b') : wL_lawOf_55 post mc ms J x0 x1 x3 x4 (nI k) z0 kc ks a n b n := by
  obtain ⟨q, hq, e⟩ := pk_andE z0 8 (m := 255) (by decide)
  have hq' : q < 256 := hq
  have e1 : ((z0 &&& 255).toUInt32 % 65536).toInt32 = nI q := by
    rw [e]
    exact (sb_byte q hq').2.1
  refine ⟨vp_in_nI hk (by omega), nm_r (e' := upd a k (nI q)) (by rw [nI_clamp (by omega), e1]) ⟨vp_in_nI hk (by omega), vp_in_nI hk (by omega), ?_⟩⟩
  refine nm_r (e' := upd b k (nI q)) (by rw [nI_clamp (by omega), pk_us, sg_vc hq']) (nm_r (nI_1 k) (hJ _ _ (fun j hj => ?_)))
  by_cases ej : j = k
  · subst ej
    exact ⟨q, hq', pk_us, pk_us⟩
  · rw [pk_un ej, pk_un ej]
    exact h j (by omega)
/-- behind the filling loop: the two signs are the same, the arrays are as they were -/
theorem sg_end {post : Int32 → St0 → Prop} {mc ms kc ks n i : Nat} {a b : Nat → Int32} (hn : n ≤ 8) (hi : i < n) (h : sg_I n a b) (hmc : kc + 2 ≤ mc) (hms : ks + 12 ≤ ms) (hp : post 1 ()) :
    ∃ mc_22 ms_23 : Nat, kc + mc_22 ≤ mc ∧ ks + ms_23 ≤ ms ∧ (wpX0_signAt (fun r_19 u => match u with | (am10_20, nm10_21) => (wpX1_signAt (fun r_26 => (((r_19 = r_26 → (∃ fu117 : Nat, wL_lawOf_117 post mc ms (nI n) (kc + mc_22) (ks + ms_23) am10_20 nm10_21 b n fu117 0)) ∧ (¬ r_19 = r_26 → (post 0 ()))))) (b, n) (nI i))) mc_22 ms_23 (a, n) (nI i)) := by
  have ha : ∀ j, j < n → (a j).toNatClampNeg < 256 ∧ a j = nI (a j).toNatClampNeg := by
    intro j hj
    obtain ⟨q, hq, e1, _⟩ := h j hj
    rw [e1, nI_clamp (by omega)]
    exact ⟨hq, rfl⟩
  have he : ∀ j, j < n → a j = b j := by
    intro j hj
    obtain ⟨q, hq, e1, e2⟩ := h j hj
    rw [e1, e2]
  have hb : ∀ j, j < n → (a j).toNatClampNeg < 256 ∧ b j = nI (a j).toNatClampNeg := by
    intro j hj
    have h1 := ha j hj
    rw [← he j hj]
    exact h1
  refine ⟨2, n + 4, by omega, by omega, ?_⟩
  refine sg_x0 (t := fun j => (a j).toNatClampNeg) hi (by omega) ha (by omega) (by omega) ?_
  exact sg_x1 (t := fun j => (a j).toNatClampNeg) hi (by omega) hb (br_t rfl (sg_117 (by omega) he hp))
/-- the filling loop -/
theorem sg_23 {post : Int32 → St0 → Prop} {mc ms : Nat} {x0 x1 x3 : Int32} {kc ks n : Nat} (h0 : 0 < n) (hn : n ≤ 8) (hmc : kc + 2 ≤ mc) (hms : ks + 12 ≤ ms) (hp : post 1 ()) (a b : Nat → Int32) :
    ∃ f, wL_lawOf_23 post mc ms x0 x1 x3 (nI n) kc ks n n f 0 a b := by
  obtain ⟨q, hq, e⟩ := pk_andE x3 8 (m := 255) (by decide)
  have hq' : q < 256 := hq
  refine pk_loop (σ := (Nat → Int32) × (Nat → Int32)) (fun f k s => wL_lawOf_23 post mc ms x0 x1 x3 (nI n) kc ks n n f (nI k) s.1 s.2) (fun k s => sg_I k s.1 s.2) n 0 (a, b) (by omega) (fun j hj => absurd hj (by omega)) ?_ ?_
  · intro f s h
    refine pk_le n n (fun _ => ⟨nI_ne0 h0 (by omega), nm_r (e' := nI (q % n)) (by rw [e]; exact pk_rem (by omega) h0 (by omega)) ?_⟩) (fun z => absurd z (by omega))
    exact sg_end hn (Nat.mod_lt _ h0) h hmc hms hp
  · intro f k s hk h hw
    exact pk_le n k (fun z => absurd z (by omega)) (fun _ => br_c (fun _ => sg_55 hk hn h (fun a' b' h' => hw (a', b') h')) (fun _ => sg_55 hk hn h (fun a' b' h' => hw (a', b') h')))
theorem sg_of {post : Int32 → St0 → Prop} {p0 p1 p2 p3 : Int32} (hp : post 1 ()) : wpL_lawOf post 7 112 () p0 p1 p2 p3 := by
  obtain ⟨j, hj, e⟩ := pk_andE p2 3 (m := 7) (by decide)
  have hj' : j < 8 := hj
  have e1 : 1 + (p2 &&& 7) = nI (1 + j) := by
    rw [e]
    exact nI_add 1 j
  refine nm_r e1 ⟨nI_pos (by omega), nm_r (nI_clamp (by omega)) ⟨by omega, by omega, by omega, nI_pos (by omega), nm_r (nI_clamp (by omega)) ⟨by omega, by omega, by omega, ?_⟩⟩⟩
  exact sg_23 (by omega) (by omega) (by omega) (by omega) hp _ _
theorem sg_cell {post : Int32 → Prop} {L : Nat} {xs : Nat → Int32} (i : Nat) {x : Int32} (hi : i < 4) (hL : L ≤ 4) (hp : ∀ r, post r) (hx : x = nI i := by rfl) : wpL_cellAt post L xs () x := by
  subst hx
  exact pk_le L i (fun _ => hp _) (fun z => ⟨vp_in_nI z (by omega), hp _⟩)
theorem i_vc (xs : Nat → Int32) (L : Nat) (hL : L ≤ 4) : wpL_law (fun r => r = 1) L xs :=
  sg_cell 0 (by omega) hL (fun _ => sg_cell 1 (by omega) hL (fun _ => sg_cell 2 (by omega) hL (fun _ => sg_cell 3 (by omega) hL (fun _ => ⟨7, 112, by omega, by omega, sg_of rfl⟩))))
end
