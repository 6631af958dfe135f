section
/-- all zero -/
abbrev mp_Z : Nat → Int32 := fun _ => 0
/-- both moves of every place lead back to it -/
def mp_G (k : Nat) (a : Nat → Int32) : Prop := ∀ j, j < k → a (2 * j) = nI j ∧ a (2 * j + 1) = nI j
/-- every denominator is 1 -/
def mp_B (k : Nat) (a : Nat → Int32) : Prop := ∀ j, j < k → a j = 1
/-- the places belong to the players in turn -/
def mp_P (k : Nat) (a : Nat → Int32) : Prop := ∀ j, j < k → a j = nI (1 - j % 2)
/-- a place of the game -/
def mp_In (k : Nat) (p : Int32) : Prop := ∃ j, j < k ∧ p = nI j
/-- not solved, or solved and the denominators stand -/
def mp_S (k : Nat) (sv : Int32) (a7 : Nat → Int32) : Prop := sv = 0 ∨ (sv = 1 ∧ mp_B k a7)
/-- the size of the game out of the argument -/
def mp_Sz (p0 : Int32) (k : Nat) : Prop := p0 = nI k ∨ (¬ p0 ≤ 5 ∧ 1 ≤ p0 ∧ k = 5) ∨ (¬ 1 ≤ p0 ∧ k = 1)
theorem mp_uz (k : Nat) : upd mp_Z k 0 = mp_Z := by
  funext j
  show (if j = k then (0 : Int32) else 0) = 0
  split <;> rfl
theorem mp_d (j : Nat) : nI j * 2 = nI (2 * j) := by
  rw [Nat.mul_comm]
  exact pk_mul j 2
theorem mp_d1 (j : Nat) : nI j * 2 + 1 = nI (2 * j + 1) := by
  rw [mp_d]
  exact nI_1 _
theorem mp_neg (x : Int32) (h : x < 0) : ¬ (1 : Int32) ≤ x := by
  intro g
  rw [Int32.lt_iff_toInt_lt] at h
  rw [Int32.le_iff_toInt_le] at g
  have e0 : (0 : Int32).toInt = 0 := by decide
  have e1 : (1 : Int32).toInt = 1 := by decide
  omega
theorem mp_big (x : Int32) (h : nI 6 ≤ x) : ¬ x ≤ 5 ∧ 1 ≤ x := by
  rw [Int32.le_iff_toInt_le] at h
  have e6 : (nI 6).toInt = 6 := by decide
  have e5 : (5 : Int32).toInt = 5 := by decide
  have e1 : (1 : Int32).toInt = 1 := by decide
  constructor
  · intro g
    rw [Int32.le_iff_toInt_le] at g
    omega
  · rw [Int32.le_iff_toInt_le]
    omega
theorem mp_sz (p0 : Int32) : ∃ k, 1 ≤ k ∧ k ≤ 5 ∧ mp_Sz p0 k := by
  rcases pk_ix p0 (n := 6) (by decide) with h | h | ⟨j, hj, e⟩
  · exact ⟨1, by omega, by omega, Or.inr (Or.inr ⟨mp_neg p0 h, rfl⟩)⟩
  · exact ⟨5, by omega, by omega, Or.inr (Or.inl ⟨(mp_big p0 h).1, (mp_big p0 h).2, rfl⟩)⟩
  · by_cases h0 : j = 0
    · refine ⟨1, by omega, by omega, Or.inr (Or.inr ⟨?_, rfl⟩)⟩
      rw [e, h0]
      decide
    · exact ⟨j, by omega, by omega, Or.inl e⟩
theorem mp_inl {k : Nat} {p : Int32} {F T : Prop} (hk : k ≤ 5) (f : ¬ mp_In k p → F) (t : mp_In k p → T) : (p < 0 → F) ∧ (¬ p < 0 → ((nI k ≤ p → F) ∧ (¬ nI k ≤ p → T))) := by
  by_cases h : mp_In k p
  · have h' := h
    obtain ⟨j, hj, rfl⟩ := h'
    exact br_f (nI_pos (by omega)) (br_f (nI_ge hj (by omega)) (t h))
  · refine br_c (fun _ => f h) (fun h0 => br_c (fun _ => f h) (fun h1 => ?_))
    rcases pk_ix p (n := k) (by omega) with g | g | g
    · exact absurd g h0
    · exact absurd g h1
    · exact t g
theorem mp_inr {k : Nat} {p : Int32} {F T : Prop} (hk : k ≤ 5) (f : ¬ mp_In k p → F) (t : mp_In k p → T) : (p < 0 → F) ∧ (¬ p < 0 → ((p < nI k → T) ∧ (¬ p < nI k → F))) := by
  by_cases h : mp_In k p
  · have h' := h
    obtain ⟨j, hj, rfl⟩ := h'
    exact br_f (nI_pos (by omega)) (br_t (nI_lt hj (by omega)) (t h))
  · refine br_c (fun _ => f h) (fun h0 => br_c (fun h1 => ?_) (fun _ => f h))
    rcases pk_ix p (n := k) (by omega) with g | g | g
    · exact absurd g h0
    · exact absurd h1 (Int32.not_lt.mpr g)
    · exact t g
theorem mp_99 {post : St2 → Prop} {mc ms kc ks : Nat} {J : Int32 → (Nat → Int32) → (Nat → Int32) → (Nat → Int32) → (Nat → Int32) → (Nat → Int32) → (Nat → Int32) → (Nat → Int32) → Prop} {x2 z0 n0 sv : Int32} {a1 a2 a3 a4 a5 a6 a7 : Nat → Int32} {i : Nat} (hi : i < 5)
    (h : J (nI (i + 1)) (upd a1 i z0) (upd (upd a2 (2 * i) (nI i)) (2 * i + 1) (nI i)) a3 a4 a5 a6 a7) : wX_init_99 post mc ms J x2 (nI i) z0 (nI i) kc ks n0 sv a1 a2 a3 a4 a5 a6 a7 := by
  unfold wX_init_99
  refine ⟨pk_in i 5 hi, nm_r (e' := upd a1 i z0) (by rw [nI_clamp (by omega)]) ?_⟩
  refine ⟨pk_in (2 * i) 10 (by omega) (mp_d i), nm_r (e' := upd a2 (2 * i) (nI i)) (by rw [mp_d, nI_clamp (by omega)]) ?_⟩
  refine ⟨pk_in (2 * i + 1) 10 (by omega) (mp_d1 i), nm_r (e' := upd (upd a2 (2 * i) (nI i)) (2 * i + 1) (nI i)) (by rw [mp_d1, nI_clamp (by omega)]) ?_⟩
  exact nm_r (nI_1 i) h
theorem mp_Pu {i : Nat} {a : Nat → Int32} {z : Int32} (h : mp_P i a) (hz : z = nI (1 - i % 2)) : mp_P (i + 1) (upd a i z) := by
  intro j hj
  by_cases e : j = i
  · rw [e, pk_us, hz]
  · rw [pk_un e]
    exact h j (by omega)
theorem mp_Gu {i : Nat} {a : Nat → Int32} (h : mp_G i a) : mp_G (i + 1) (upd (upd a (2 * i) (nI i)) (2 * i + 1) (nI i)) := by
  intro j hj
  by_cases e : j = i
  · rw [e, pk_us, pk_un (by omega), pk_us]
    exact ⟨rfl, rfl⟩
  · rw [pk_un (show 2 * j ≠ 2 * i + 1 by omega), pk_un (show 2 * j ≠ 2 * i by omega), pk_un (show 2 * j + 1 ≠ 2 * i + 1 by omega), pk_un (show 2 * j + 1 ≠ 2 * i by omega)]
    exact h j (by omega)
theorem mp_78 {post : St2 → Prop} {mc ms kc ks : Nat} {sv : Int32} {k : Nat} (hk : k ≤ 5) (H : ∀ a1 a2, mp_P k a1 → mp_G k a2 → post (nI k, sv, a1, a2, mp_Z, mp_Z, mp_Z, mp_Z, mp_Z)) :
    ∃ n, wX_init_78 post mc ms (nI k) kc ks (nI k) sv n 0 mp_Z mp_Z mp_Z mp_Z mp_Z mp_Z mp_Z :=
  pk_loop (σ := (Nat → Int32) × (Nat → Int32)) (fun n i s => wX_init_78 post mc ms (nI k) kc ks (nI k) sv n (nI i) s.1 s.2 mp_Z mp_Z mp_Z mp_Z mp_Z) (fun i s => mp_P i s.1 ∧ mp_G i s.2) k 0 (mp_Z, mp_Z) (by omega)
    ⟨fun j hj => absurd hj (by omega), fun j hj => absurd hj (by omega)⟩
    (fun n s h => pk_le k k (fun _ => H s.1 s.2 h.1 h.2) (fun z => absurd z (by omega)))
    (fun n i s hi h hw => pk_le k i (fun z => absurd z (by omega)) (fun _ =>
      pk_eq (i % 2) 0
        (fun z => mp_99 (by omega) (hw (_, _) ⟨mp_Pu h.1 (by rw [z]; rfl), mp_Gu h.2⟩))
        (fun z => mp_99 (by omega) (hw (_, _) ⟨mp_Pu h.1 (by rw [show i % 2 = 1 by omega]; rfl), mp_Gu h.2⟩))
        (hx := pk_andN (by omega) 1 (by decide))))
theorem mp_64 {post : St2 → Prop} {mc ms kc ks : Nat} {f0 sv : Int32} {k : Nat} (hk : k ≤ 5) (H : ∀ a1 a2, mp_P k a1 → mp_G k a2 → post (nI k, sv, a1, a2, mp_Z, mp_Z, mp_Z, mp_Z, mp_Z)) :
    wX_init_64 post mc ms (nI k) kc ks f0 sv mp_Z mp_Z mp_Z mp_Z mp_Z mp_Z mp_Z := by
  unfold wX_init_64
  exact br_t (nI_le (b := 5) hk (by decide)) (mp_78 hk H)
theorem mp_init {post : St2 → Prop} {f0 sv p0 : Int32} {k : Nat} (h1 : 1 ≤ k) (hk : k ≤ 5) (hz : mp_Sz p0 k) (H : ∀ a1 a2, mp_P k a1 → mp_G k a2 → post (nI k, sv, a1, a2, mp_Z, mp_Z, mp_Z, mp_Z, mp_Z)) :
    wpX_init post 7 45 (f0, sv) p0 := by
  unfold wpX_init
  refine ⟨by omega, by omega, by omega, by omega, by omega, by omega, by omega, by omega, by omega, by omega, by omega, by omega, by omega, by omega, ?_⟩
  rcases hz with e | ⟨hn, h0, e⟩ | ⟨hn, e⟩
  · subst e
    exact br_t (nI_le (a := 1) h1 (by omega)) (mp_64 hk H)
  · subst e
    refine br_t h0 ?_
    unfold wX_init_64
    exact br_f hn (mp_78 hk H)
  · subst e
    exact br_f hn (mp_64 (k := 1) hk H)
end
section
theorem mp_ro {post : Int32 → Prop} {u : St2} {x : Int32} {K : Nat} (h1 : 1 ≤ K) (hK : K < 2 ^ 20) (hx : x = 0) (h : post 0) : wpX_roundedOver post u x (nI K) := by
  obtain ⟨n0, sv, a1, a2, a3, a4, a5, a6, a7⟩ := u
  subst hx
  unfold wpX_roundedOver
  have e2 : (2 : Int32) * nI K = nI (2 * K) := pk_mul 2 K
  have e3 : (2 : Int32) * 0 + nI K = nI K := by rw [Int32.mul_zero, Int32.zero_add]
  refine br_t (nI_le (a := 1) h1 (by omega)) (nm_r e3 ⟨by rw [e2]; exact nI_ne0 (by omega) (by omega), nm_r (e' := 0) ?_ (br_t (nI_pos' (by omega)) h)⟩)
  rw [e2, pk_div (by omega) (by omega) (by omega), Nat.div_eq_of_lt (by omega)]
  rfl
theorem mp_n15 {post : St2 → Prop} {sv : Int32} {a1 a2 a7 : Nat → Int32} {j k K : Nat} {x3 : Int32} (hk : k ≤ 5) (hj : j < k) (h1 : 1 ≤ K) (hK : K < 2 ^ 20) (H : post (nI k, sv, a1, a2, mp_Z, mp_Z, mp_Z, mp_Z, a7)) :
    ∃ n, wX_nearest_15 post (nI j) (nI K) x3 (nI k) sv n 1 (nI 2) a1 a2 mp_Z mp_Z mp_Z mp_Z a7 :=
  pk_loop (σ := Unit) (fun n i _ => wX_nearest_15 post (nI j) (nI K) x3 (nI k) sv n 1 (nI i) a1 a2 mp_Z mp_Z mp_Z mp_Z a7) (fun _ _ => True) (k + 1) 2 () (by omega) trivial
    (fun n _ _ => pk_lt k (k + 1) (fun _ => H) (fun z => absurd z (by omega)))
    (fun n i _ hi _ hw => pk_lt k i (fun z => absurd z (by omega)) (fun _ => ⟨pk_in j 5 (by omega), mp_ro h1 hK (Int32.zero_mul)
      ⟨pk_in j 5 (by omega), nm_r (e' := 0) (by show (0 : Int32) * nI i - nI K * 0 = 0; rw [Int32.zero_mul, Int32.mul_zero]; rfl)
        (br_t (by decide) (br_f (by decide) (nm_r (nI_1 i) (hw () trivial))))⟩⟩))
theorem mp_near {post : St2 → Prop} {sv : Int32} {a1 a2 a7 : Nat → Int32} {j k K : Nat} (hk : k ≤ 5) (hj : j < k) (h1 : 1 ≤ K) (hK : K < 2 ^ 20) (H : post (nI k, sv, a1, a2, mp_Z, mp_Z, mp_Z, mp_Z, upd a7 j 1)) :
    wpX_nearest post (nI k, sv, a1, a2, mp_Z, mp_Z, mp_Z, mp_Z, a7) (nI j) (nI K) := by
  unfold wpX_nearest
  have e6 : (2 : Int32) * nI k * 3 = nI (2 * k * 3) := by
    rw [show (2 : Int32) * nI k = nI (2 * k) from pk_mul 2 k]
    exact pk_mul (2 * k) 3
  refine nm_r e6 ?_
  obtain ⟨n, hn⟩ := mp_n15 (post := post) (sv := sv) (a1 := a1) (a2 := a2) (a7 := upd a7 j 1) (x3 := nI (2 * k * 3)) hk hj h1 hK H
  refine ⟨n + 1, pk_lt k 1 (fun z => absurd z (by omega)) (fun _ => ⟨pk_in j 5 (by omega), mp_ro h1 hK (Int32.zero_mul) ⟨pk_in j 5 (by omega), nm_r (e' := 0) ?_ (br_t (by decide) (br_t rfl (br_f ?_ ⟨pk_in j 5 (by omega), nm_r (e' := mp_Z) ?_ ⟨pk_in j 5 (by omega), nm_r (e' := upd a7 j 1) ?_ (nm_r (e' := nI 2) ?_ hn)⟩⟩)))⟩⟩)⟩
  · show (0 : Int32) * 1 - nI K * 0 = 0
    rw [Int32.zero_mul, Int32.mul_zero]
    rfl
  · rw [Int32.mul_one]
    exact nI_pos (by omega)
  · exact mp_uz _
  · rw [nI_clamp (by omega)]
  · rfl
theorem mp_p119 {post : St2 → Prop} {sv : Int32} {a1 a2 a7 : Nat → Int32} {k : Nat} (hk : k ≤ 5) (H : post (nI k, sv, a1, a2, mp_Z, mp_Z, mp_Z, mp_Z, a7)) :
    ∃ n, wX_playRound_119 post (nI k) sv n 0 a1 a2 mp_Z mp_Z mp_Z mp_Z a7 :=
  pk_loop (σ := Unit) (fun n i _ => wX_playRound_119 post (nI k) sv n (nI i) a1 a2 mp_Z mp_Z mp_Z mp_Z a7) (fun _ _ => True) k 0 () (by omega) trivial
    (fun n _ _ => pk_le k k (fun _ => H) (fun z => absurd z (by omega)))
    (fun n i _ hi _ hw => pk_le k i (fun z => absurd z (by omega)) (fun _ => ⟨pk_in i 5 (by omega), pk_in i 5 (by omega), nm_r (e' := mp_Z) (mp_uz _) (nm_r (nI_1 i) (hw () trivial))⟩))
theorem mp_p93 {post : St2 → Prop} {J : Int32 → (Nat → Int32) → (Nat → Int32) → (Nat → Int32) → (Nat → Int32) → (Nat → Int32) → (Nat → Int32) → (Nat → Int32) → Prop} {n0 sv : Int32} {a1 a2 a3 a4 a6 a7 : Nat → Int32} {i : Nat} (hi : i < 5)
    (h : J (nI (i + 1)) a1 a2 a3 a4 mp_Z a6 a7) : wX_playRound_93 post J (nI i) 0 0 1 n0 sv a1 a2 a3 a4 mp_Z a6 a7 := by
  unfold wX_playRound_93
  exact br_f (by decide) ⟨pk_in i 5 hi, nm_r (e' := mp_Z) (mp_uz _) (nm_r (nI_1 i) h)⟩
theorem mp_play {post : St2 → Prop} {sv : Int32} {a1 a2 a7 : Nat → Int32} {k : Nat} (hk : k ≤ 5) (hG : mp_G k a2) (H : post (nI k, sv, a1, a2, mp_Z, mp_Z, mp_Z, mp_Z, a7)) :
    wpX_playRound post (nI k, sv, a1, a2, mp_Z, mp_Z, mp_Z, mp_Z, a7) := by
  unfold wpX_playRound
  refine pk_loop (σ := Unit) (fun n i _ => wX_playRound_2 post (nI k) sv n (nI i) a1 a2 mp_Z mp_Z mp_Z mp_Z a7) (fun _ _ => True) k 0 () (by omega) trivial
    (fun n _ _ => pk_le k k (fun _ => mp_p119 hk H) (fun z => absurd z (by omega)))
    (fun n i _ hi _ hw => pk_le k i (fun z => absurd z (by omega)) (fun _ => ?_))
  have c0 : (nI i * 2).toNatClampNeg = 2 * i := by rw [mp_d, nI_clamp (by omega)]
  have c1 : (nI i * 2 + 1).toNatClampNeg = 2 * i + 1 := by rw [mp_d1, nI_clamp (by omega)]
  have g0 : a2 (nI i * 2).toNatClampNeg = nI i := by rw [c0]; exact (hG i hi).1
  have g1 : a2 (nI i * 2 + 1).toNatClampNeg = nI i := by rw [c1]; exact (hG i hi).2
  have w := mp_p93 (post := post) (J := wX_playRound_2 post (nI k) sv n) (n0 := nI k) (sv := sv) (a1 := a1) (a2 := a2) (a3 := mp_Z) (a4 := mp_Z) (a6 := mp_Z) (a7 := a7) (i := i) (by omega) (hw () trivial)
  refine ⟨pk_in (2 * i) 10 (by omega) (mp_d i), pk_in (2 * i) 10 (by omega) (mp_d i), pk_in i 5 (by omega) g0, nm_r (e' := 0) (by rfl) ?_⟩
  refine ⟨pk_in (2 * i + 1) 10 (by omega) (mp_d1 i), pk_in (2 * i + 1) 10 (by omega) (mp_d1 i), pk_in i 5 (by omega) g1, nm_r (e' := 0) (by rfl) ?_⟩
  exact ⟨pk_in i 5 (by omega), br_c (fun _ => br_f (by decide) w) (fun _ => br_f (by decide) w)⟩
theorem mp_s62 {post : St2 → Prop} {sv : Int32} {a1 a2 a7 : Nat → Int32} {k K : Nat} (hk : k ≤ 5) (h1 : 1 ≤ K) (hK : K < 2 ^ 20) (H : ∀ a, mp_B k a → post (nI k, 1, a1, a2, mp_Z, mp_Z, mp_Z, mp_Z, a)) :
    ∃ n, wX_solve_62 post (nI K) n 0 (nI k) sv a1 a2 mp_Z mp_Z mp_Z mp_Z a7 :=
  pk_loop (σ := Nat → Int32) (fun n i s => wX_solve_62 post (nI K) n (nI i) (nI k) sv a1 a2 mp_Z mp_Z mp_Z mp_Z s) (fun i s => mp_B i s) k 0 a7 (by omega) (fun j hj => absurd hj (by omega))
    (fun n s h => pk_le k k (fun _ => H s h) (fun z => absurd z (by omega)))
    (fun n i s hi h hw => pk_le k i (fun z => absurd z (by omega)) (fun _ => mp_near hk hi h1 hK (nm_r (nI_1 i) (hw _ (fun j hj => by
      by_cases e : j = i
      · rw [e, pk_us]
      · rw [pk_un e]
        exact h j (by omega))))))
theorem mp_s38 {post : St2 → Prop} {sv : Int32} {a1 a2 a7 : Nat → Int32} {k K : Nat} (hk : k ≤ 5) (h1 : 1 ≤ K) (hK : K < 2000) (hG : mp_G k a2) (H : ∀ a, mp_B k a → post (nI k, 1, a1, a2, mp_Z, mp_Z, mp_Z, mp_Z, a)) :
    ∃ n, wX_solve_38 post (nI K) n 0 (nI k) sv a1 a2 mp_Z mp_Z mp_Z mp_Z a7 :=
  pk_loop (σ := Unit) (fun n i _ => wX_solve_38 post (nI K) n (nI i) (nI k) sv a1 a2 mp_Z mp_Z mp_Z mp_Z a7) (fun _ _ => True) K 0 () (by omega) trivial
    (fun n _ _ => pk_le K K (fun _ => mp_s62 hk h1 (by omega) H) (fun z => absurd z (by omega)))
    (fun n i _ hi _ hw => pk_le K i (fun z => absurd z (by omega)) (fun _ => pk_le 2000 i (fun z => absurd z (by omega)) (fun _ => mp_play hk hG (nm_r (nI_1 i) (hw () trivial)))))
theorem mp_K : ∀ k, k < 6 → ((((4 * nI k) * nI k) * nI k) * 3) + 1 = nI (12 * (k * k * k) + 1) ∧ 12 * (k * k * k) + 1 < 2000 := by decide +kernel
theorem mp_s10 {post : St2 → Prop} {sv : Int32} {a1 a2 a7 : Nat → Int32} {k : Nat} (hk : k ≤ 5) (hG : mp_G k a2) (H : ∀ a, mp_B k a → post (nI k, 1, a1, a2, mp_Z, mp_Z, mp_Z, mp_Z, a)) :
    ∃ n, wX_solve_10 post (nI k) sv n 0 a1 a2 mp_Z mp_Z mp_Z mp_Z a7 := by
  refine pk_loop (σ := Unit) (fun n i _ => wX_solve_10 post (nI k) sv n (nI i) a1 a2 mp_Z mp_Z mp_Z mp_Z a7) (fun _ _ => True) k 0 () (by omega) trivial
    (fun n _ _ => pk_le k k (fun _ => ?_) (fun z => absurd z (by omega)))
    (fun n i _ hi _ hw => pk_le k i (fun z => absurd z (by omega)) (fun _ => ⟨pk_in i 5 (by omega), nm_r (e' := mp_Z) (mp_uz _) (nm_r (nI_1 i) (hw () trivial))⟩))
  unfold wpX_rounds
  have q := mp_K k (by omega)
  show ∃ fu : Nat, wX_solve_38 post (((((4 * nI k) * nI k) * nI k) * 3) + 1) fu 0 (nI k) sv a1 a2 mp_Z mp_Z mp_Z mp_Z a7
  rw [q.1]
  exact mp_s38 hk (by omega) q.2 hG H
theorem mp_solve {post : St2 → Prop} {sv : Int32} {a1 a2 a7 : Nat → Int32} {k : Nat} (hk : k ≤ 5) (hG : mp_G k a2) (hS : mp_S k sv a7) (H : ∀ a, mp_B k a → post (nI k, 1, a1, a2, mp_Z, mp_Z, mp_Z, mp_Z, a)) :
    wpX_solve post (nI k, sv, a1, a2, mp_Z, mp_Z, mp_Z, mp_Z, a7) := by
  unfold wpX_solve
  rcases hS with e | ⟨e, hB⟩
  · subst e
    exact br_t rfl (mp_s10 hk hG H)
  · subst e
    exact br_f (by decide) (H a7 hB)
end
section
theorem mp_bad {post : Int32 → Prop} {sv p : Int32} {a1 a2 a3 a4 a5 a6 a7 : Nat → Int32} {k : Nat} (hk : k ≤ 5) (t : mp_In k p → post 0) (f : ¬ mp_In k p → post 1) : wpX_badPlace post (nI k, sv, a1, a2, a3, a4, a5, a6, a7) p := by
  unfold wpX_badPlace
  exact mp_inr hk f t
theorem mp_num {post : Int32 → St2 → Prop} {sv p : Int32} {a1 a2 a7 : Nat → Int32} {k : Nat} (hk : k ≤ 5) (hG : mp_G k a2) (hS : mp_S k sv a7)
    (t : mp_In k p → ∀ sv a7, mp_S k sv a7 → post 0 (nI k, sv, a1, a2, mp_Z, mp_Z, mp_Z, mp_Z, a7)) (f : ¬ mp_In k p → post (-100) (nI k, sv, a1, a2, mp_Z, mp_Z, mp_Z, mp_Z, a7)) :
    wpX_numerator post (nI k, sv, a1, a2, mp_Z, mp_Z, mp_Z, mp_Z, a7) p := by
  unfold wpX_numerator
  refine mp_bad hk (fun h => br_t rfl (mp_solve hk hG hS (fun a hB => ⟨?_, t h 1 a (Or.inr ⟨rfl, hB⟩)⟩))) (fun h => br_f (by decide) (f h))
  obtain ⟨j, hj, rfl⟩ := h
  exact pk_in j 5 (by omega)
/-- the set of Min's places among the first n -/
def mp_mn : Nat → Int32
  | 0 => 0
  | n + 1 => if n % 2 = 1 then mp_mn n ||| ((1 : Int32) <<< (nI n &&& 31)) else mp_mn n
theorem mp_pom {post : Int32 → Prop} {sv : Int32} {a1 a2 a3 a4 a5 a6 a7 : Nat → Int32} {k : Nat} (hk : k ≤ 5) (hP : mp_P k a1) (h : post (mp_mn k)) : wpX_placesOfMin post (nI k, sv, a1, a2, a3, a4, a5, a6, a7) := by
  unfold wpX_placesOfMin
  refine pk_loop (σ := Unit) (fun n i _ => wX_placesOfMin_4 post (nI k) sv a1 a2 a3 a4 a5 a6 a7 n (mp_mn i) (nI i)) (fun _ _ => True) k 0 () (by omega) trivial
    (fun n _ _ => pk_le k k (fun _ => h) (fun z => absurd z (by omega)))
    (fun n i _ hi _ hw => pk_le k i (fun z => absurd z (by omega)) (fun _ => ⟨pk_in i 5 (by omega), ?_⟩))
  have e : a1 (nI i).toNatClampNeg = nI (1 - i % 2) := by rw [nI_clamp (by omega)]; exact hP i hi
  have w : wX_placesOfMin_4 post (nI k) sv a1 a2 a3 a4 a5 a6 a7 n (mp_mn (i + 1)) (nI (i + 1)) := hw () trivial
  refine pk_eq (1 - i % 2) 0 (fun z => nm_r (e' := mp_mn (i + 1)) ?_ (nm_r (nI_1 i) w)) (fun z => nm_r (nI_1 i) ?_) (hx := e)
  · show _ = if i % 2 = 1 then mp_mn i ||| ((1 : Int32) <<< (nI i &&& 31)) else mp_mn i
    rw [if_pos (by omega)]
  · have m : mp_mn (i + 1) = mp_mn i := by
      show (if i % 2 = 1 then mp_mn i ||| ((1 : Int32) <<< (nI i &&& 31)) else mp_mn i) = _
      rw [if_neg (by omega)]
    rw [m] at w
    exact w
theorem mp_so {post : Int32 → Prop} {x n0 sv : Int32} {a1 a2 a3 a4 a5 a6 a7 : Nat → Int32} (h : ∀ r, post r) : wpX_sizeOf post (n0, sv, a1, a2, a3, a4, a5, a6, a7) x := by
  unfold wpX_sizeOf
  exact pk_loop (σ := Int32) (fun n i s => wX_sizeOf_4 post x n0 sv a1 a2 a3 a4 a5 a6 a7 n s (nI i)) (fun _ _ => True) 5 0 0 (by omega) trivial
    (fun n s _ => pk_le 5 5 (fun _ => h s) (fun z => absurd z (by omega)))
    (fun n i s hi _ hw => pk_le 5 i (fun z => absurd z (by omega)) (fun _ => nm_e (nm_r (nI_1 i) (hw _ trivial))))
/-- bit j of the set x -/
abbrev mp_bit (x : Int32) (j : Nat) : Prop := (x >>> (nI j &&& 31)) &&& 1 = 1
theorem mp_give {post : St2 → Prop} {x c sv : Int32} {a1 a2 a3 a4 a5 a6 a7 : Nat → Int32} {k : Nat} (hk : k ≤ 5)
    (H : ∀ a, (∀ j, j < k → (mp_bit x j → a j = c) ∧ (¬ mp_bit x j → a j = a1 j)) → post (nI k, 0, a, a2, a3, a4, a5, a6, a7)) :
    wpX_give post (nI k, sv, a1, a2, a3, a4, a5, a6, a7) x c := by
  unfold wpX_give
  refine pk_loop (σ := Nat → Int32) (fun n i s => wX_give_2 post x c (nI k) sv n (nI i) s a2 a3 a4 a5 a6 a7) (fun i s => (∀ j, j < i → (mp_bit x j → s j = c) ∧ (¬ mp_bit x j → s j = a1 j)) ∧ (∀ j, i ≤ j → s j = a1 j)) k 0 a1 (by omega)
    ⟨fun j hj => absurd hj (by omega), fun j _ => rfl⟩
    (fun n s h => pk_le k k (fun _ => H s h.1) (fun z => absurd z (by omega)))
    (fun n i s hi h hw => pk_le k i (fun z => absurd z (by omega)) (fun _ => br_c (fun hb => ⟨pk_in i 5 (by omega), nm_r (e' := upd s i c) (by rw [nI_clamp (by omega)]) (nm_r (nI_1 i) (hw _ ⟨fun j hj => ?_, fun j hj => ?_⟩))⟩) (fun hb => nm_r (nI_1 i) (hw s ⟨fun j hj => ?_, fun j hj => ?_⟩))))
  · by_cases e : j = i
    · subst e
      exact ⟨fun _ => pk_us, fun z => absurd hb z⟩
    · rw [pk_un e]
      exact h.1 j (by omega)
  · rw [pk_un (by omega)]
    exact h.2 j (by omega)
  · by_cases e : j = i
    · subst e
      exact ⟨fun z => absurd z hb, fun _ => h.2 j (Nat.le_refl j)⟩
    · exact h.1 j (by omega)
  · exact h.2 j (by omega)
theorem mp_tab : ∀ k, k < 6 → ∀ s, s < 32 → nI s &&& (mp_mn k ^^^ (-1)) = 0 → ∀ j, j < k → mp_bit (nI s) j → j % 2 = 1 := by decide +kernel
theorem mp_sh : ∀ k, k < 6 → (1 : Int32) <<< (nI k &&& 31) = nI (2 ^ k) ∧ 1 ≤ 2 ^ k ∧ 2 ^ k ≤ 32 := by decide +kernel
theorem mp_gl {post : Int32 → St2 → Prop} {sv : Int32} {a1 a2 a7 : Nat → Int32} {k p : Nat} (hk : k ≤ 5) (hp : p < k) (hG : mp_G k a2)
    (H : ∀ sv a1 a7, mp_S k sv a7 → mp_P k a1 → post (nI (k + 1)) (nI k, sv, a1, a2, mp_Z, mp_Z, mp_Z, mp_Z, a7)) (hS : mp_S k sv a7) (hP : mp_P k a1) :
    ∃ n, wX_gifts_46 post (nI p) 0 1 (mp_mn k) n (nI (k + 1)) 1 (nI k) sv a1 a2 mp_Z mp_Z mp_Z mp_Z a7 := by
  obtain ⟨e, he, e1, e2⟩ : ∃ e, (1 : Int32) <<< (nI k &&& 31) = nI e ∧ 1 ≤ e ∧ e ≤ 32 := ⟨2 ^ k, mp_sh k (by omega)⟩
  refine pk_loop (σ := Int32 × (Nat → Int32) × (Nat → Int32)) (fun n i s => wX_gifts_46 post (nI p) 0 1 (mp_mn k) n (nI (k + 1)) (nI i) (nI k) s.1 s.2.1 a2 mp_Z mp_Z mp_Z mp_Z s.2.2) (fun _ s => mp_S k s.1 s.2.2 ∧ mp_P k s.2.1) e 1 (sv, a1, a7) e1 ⟨hS, hP⟩
    (fun n s h => pk_le e e (fun _ => H s.1 s.2.1 s.2.2 h.1 h.2) (fun z => absurd z (by omega)) (hx := he))
    (fun n i s hi h hw => pk_le e i (fun z => absurd z (by omega)) (fun _ => ?_) (hx := he))
  obtain ⟨sv, a1, a7⟩ := s
  obtain ⟨hS, hP⟩ := h
  refine mp_so (fun r => br_c (fun hm => br_c (fun _ => nm_r (nI_1 i) (hw (sv, a1, a7) ⟨hS, hP⟩)) (fun _ => ?_)) (fun _ => nm_r (nI_1 i) (hw (sv, a1, a7) ⟨hS, hP⟩)))
  refine mp_give hk (fun a ha => mp_solve hk hG (Or.inl rfl) (fun b hB => ⟨pk_in p 5 (by omega), pk_in p 5 (by omega), br_t ?_ ?_⟩))
  · show (0 : Int32) * 1 ≤ 0 * _
    rw [Int32.zero_mul, Int32.zero_mul]
    decide
  · refine mp_give hk (fun a' ha' => nm_r (nI_1 i) (hw (0, a', b) ⟨Or.inl rfl, fun j hj => ?_⟩))
    show a' j = nI (1 - j % 2)
    by_cases hb : mp_bit (nI i) j
    · rw [(ha' j hj).1 hb, mp_tab k (by omega) i (by omega) hm j hj hb]
      rfl
    · rw [(ha' j hj).2 hb, (ha j hj).2 hb]
      exact hP j hj
theorem mp_gifts {post : Int32 → St2 → Prop} {sv p : Int32} {a1 a2 a7 : Nat → Int32} {k : Nat} (hk : k ≤ 5) (hG : mp_G k a2) (hS : mp_S k sv a7) (hP : mp_P k a1)
    (t : mp_In k p → ∀ sv a1 a7, mp_S k sv a7 → mp_P k a1 → post (nI (k + 1)) (nI k, sv, a1, a2, mp_Z, mp_Z, mp_Z, mp_Z, a7)) (f : ¬ mp_In k p → post (-100) (nI k, sv, a1, a2, mp_Z, mp_Z, mp_Z, mp_Z, a7)) :
    wpX_gifts post (nI k, sv, a1, a2, mp_Z, mp_Z, mp_Z, mp_Z, a7) p := by
  unfold wpX_gifts
  refine mp_bad hk (fun h => br_t rfl (mp_solve hk hG hS (fun a hB => ?_))) (fun h => br_f (by decide) (f h))
  have h' := h
  obtain ⟨j, hj, rfl⟩ := h'
  have e1 : a (nI j).toNatClampNeg = 1 := by rw [nI_clamp (by omega)]; exact hB j hj
  exact ⟨pk_in j 5 (by omega), nm_r (e' := 0) rfl ⟨pk_in j 5 (by omega), nm_r (e' := 1) e1 (mp_pom hk hP (nm_r (nI_1 k) (mp_gl hk hj hG (t h) (Or.inr ⟨rfl, hB⟩) hP)))⟩⟩
/-- a move of the game -/
def mp_Mv (k : Nat) (p m : Int32) : Prop := mp_In k p ∧ (m = 0 ∨ m = 1)
/-- a move that is taken in -/
def mp_Dn (k : Nat) (p m q w : Int32) : Prop := mp_Mv k p m ∧ mp_In k q ∧ ¬ w < (-3) ∧ ¬ 3 < w
theorem mp_m01 {m : Int32} (h : ¬ m < 0) (g : m ≤ 1) : m = 0 ∨ m = 1 := by
  obtain ⟨j, hj, rfl⟩ := nI_of2 (M := 1) (n := 1) (by decide) h g
  rcases (show j = 0 ∨ j = 1 by omega) with rfl | rfl
  · exact Or.inl rfl
  · exact Or.inr rfl
theorem mp_m {m : Int32} {F T : Prop} (t : (m = 0 ∨ m = 1) → T) (f : ¬ (m = 0 ∨ m = 1) → F) : (m < 0 → F) ∧ (¬ m < 0 → ((m ≤ 1 → T) ∧ (¬ m ≤ 1 → F))) := by
  by_cases h : m = 0 ∨ m = 1
  · have T' := t h
    rcases h with rfl | rfl
    · exact br_f (by decide) (br_t (by decide) T')
    · exact br_f (by decide) (br_t (by decide) T')
  · exact br_c (fun _ => f h) (fun h0 => br_c (fun h1 => absurd (mp_m01 h0 h1) h) (fun _ => f h))
theorem mp_bm {post : Int32 → Prop} {sv p m : Int32} {a1 a2 a3 a4 a5 a6 a7 : Nat → Int32} {k : Nat} (hk : k ≤ 5) (t : mp_Mv k p m → post 0) (f : ¬ mp_Mv k p m → post 1) : wpX_badMove post (nI k, sv, a1, a2, a3, a4, a5, a6, a7) p m := by
  unfold wpX_badMove
  exact mp_bad hk (fun h => br_t rfl (mp_m (fun g => t ⟨h, g⟩) (fun g => f (fun z => g z.2)))) (fun h => br_f (by decide) (f (fun z => h z.1)))
theorem mp_ix {k : Nat} {p m : Int32} (hk : k ≤ 5) (h : mp_Mv k p m) : ∃ j, j < k ∧ p = nI j ∧ ((p * 2 + m = nI (2 * j)) ∨ (p * 2 + m = nI (2 * j + 1))) := by
  obtain ⟨⟨j, hj, rfl⟩, rfl | rfl⟩ := h
  · exact ⟨j, hj, rfl, Or.inl (by rw [mp_d, Int32.add_zero])⟩
  · exact ⟨j, hj, rfl, Or.inr (mp_d1 j)⟩
theorem mp_ixin {k : Nat} {p m : Int32} (hk : k ≤ 5) (h : mp_Mv k p m) : vp_in (p * 2 + m) 10 := by
  obtain ⟨j, hj, _, e | e⟩ := mp_ix hk h
  · exact pk_in (2 * j) 10 (by omega) e
  · exact pk_in (2 * j + 1) 10 (by omega) e
theorem mp_ixG {k : Nat} {p m : Int32} {a2 : Nat → Int32} (hk : k ≤ 5) (hG : mp_G k a2) (h : mp_Mv k p m) : a2 (p * 2 + m).toNatClampNeg = p := by
  obtain ⟨j, hj, e', e | e⟩ := mp_ix hk h
  · rw [e, nI_clamp (by omega), e']
    exact (hG j hj).1
  · rw [e, nI_clamp (by omega), e']
    exact (hG j hj).2
theorem mp_move {post : Int32 → St2 → Prop} {sv p m q w : Int32} {a1 a2 a3 a4 a5 a6 a7 : Nat → Int32} {k : Nat} (hk : k ≤ 5)
    (t : mp_Dn k p m q w → ∀ a3, post 0 (nI k, 0, a1, upd a2 (p * 2 + m).toNatClampNeg q, a3, a4, a5, a6, a7)) (f : ¬ mp_Dn k p m q w → post (-100) (nI k, sv, a1, a2, a3, a4, a5, a6, a7)) :
    wpX_move post (nI k, sv, a1, a2, a3, a4, a5, a6, a7) p m q w := by
  unfold wpX_move
  refine mp_bm hk (fun h => br_t rfl (mp_bad hk (fun g => br_t rfl (br_c (fun w1 => f (fun z => z.2.2.1 w1)) (fun w1 => br_c (fun w2 => ?_) (fun w2 => f (fun z => z.2.2.2 (Int32.not_le.mp w2)))))) (fun g => br_f (by decide) (f (fun z => g z.2.1))))) (fun h => br_f (by decide) (f (fun z => h z.1)))
  exact ⟨mp_ixin hk h, nm_e ⟨mp_ixin hk h, nm_e (t ⟨h, g, w1, Int32.not_lt.mpr w2⟩ _)⟩⟩
theorem mp_target {post : Int32 → Prop} {sv p m : Int32} {a1 a2 a3 a4 a5 a6 a7 : Nat → Int32} {k : Nat} (hk : k ≤ 5) (t : mp_Mv k p m → post (a2 (p * 2 + m).toNatClampNeg)) (f : ¬ mp_Mv k p m → post (-100)) :
    wpX_target post (nI k, sv, a1, a2, a3, a4, a5, a6, a7) p m := by
  unfold wpX_target
  exact mp_bm hk (fun h => br_t rfl ⟨mp_ixin hk h, t h⟩) (fun h => br_f (by decide) (f h))
theorem mp_par : ∀ j, j < 5 → nI (1 - j % 2) = 1 - (nI j &&& 1) := by decide +kernel
theorem mp_owner {post : Int32 → St2 → Prop} {sv p m : Int32} {a1 a2 a3 a4 a5 a6 a7 : Nat → Int32} {k : Nat} (hk : k ≤ 5) (hP : mp_P k a1) (t : mp_Mv k p m → ∀ u, post (1 - (p &&& 1)) u) (f : ¬ mp_Mv k p m → ∀ u, post (-100) u) :
    wpX_owner post (nI k, sv, a1, a2, a3, a4, a5, a6, a7) p m := by
  unfold wpX_owner
  refine mp_bad hk (fun h => br_t rfl (mp_m (fun g => ?_) (fun g => f (fun z => g z.2) _))) (fun h => br_f (by decide) (f (fun z => h z.1) _))
  have t' := t ⟨h, g⟩
  obtain ⟨j, hj, rfl⟩ := h
  have e : a1 (nI j).toNatClampNeg = 1 - (nI j &&& 1) := by
    rw [nI_clamp (by omega), ← mp_par j (by omega)]
    exact hP j hj
  exact ⟨pk_in j 5 (by omega), nm_r (e' := 1 - (nI j &&& 1)) e ⟨pk_in j 5 (by omega), nm_e (t' _)⟩⟩
end
section
/-- what the law asks: of places, numerator, gifts, move, target, owner -/
def mp_OK (A B M D : Prop) (x1 x3 x6 x7 x8 x9 x10 x11 x12 : Int32) : Prop :=
  x6 = x12 ∧ (A → x7 = 0) ∧ (¬ A → x7 = -100) ∧ (B → x8 = x12 + 1) ∧ (¬ B → x8 = -100) ∧ (D → x9 = 0) ∧ (¬ D → x9 = -100) ∧ (M → D → x10 = x3) ∧ (M → ¬ D → x10 = x1) ∧ (¬ M → x10 = -100) ∧ (M → x11 = 1 - (x1 &&& 1)) ∧ (¬ M → x11 = -100)
theorem mp_fl {x : Int32} {A : Prop} (h : x = 0 ↔ ¬ A) (g : ¬ x = 0) : A := Classical.byContradiction (fun a => g (h.mpr a))
theorem mp_f0 {A : Prop} (h : ¬ A) : (0 : Int32) = 0 ↔ ¬ A := ⟨fun _ => h, fun _ => rfl⟩
theorem mp_f1 {A : Prop} (h : A) : (1 : Int32) = 0 ↔ ¬ A := ⟨fun z => absurd z (by decide), fun z => absurd h z⟩
section
variable {post : Int32 → St0 → Prop} {mc ms kc ks : Nat}
theorem mp_269 {z0 z1 : Int32} (hp : post 1 ()) (e : z1 = z0) : wL_lawOf_269 post mc ms z0 z1 kc ks := br_t e hp
theorem mp_249 {x1 x11 x15 z0 z1 : Int32} (hp : post 1 ()) (h0 : x15 = 0 → x11 = -100) (h1 : ¬ x15 = 0 → x11 = 1 - (x1 &&& 1)) (e : z1 = z0) : wL_lawOf_249 post mc ms x1 x11 x15 z0 z1 kc ks :=
  br_t e (br_c (fun h => mp_269 hp (h0 h)) (fun h => mp_269 hp (h1 h)))
theorem mp_167 {A B M D : Prop} {x1 x3 x6 x7 x8 x9 x10 x11 x12 x13 x14 x15 z0 : Int32} (hp : post 1 ()) (ok : mp_OK A B M D x1 x3 x6 x7 x8 x9 x10 x11 x12) (hA : x13 = 0 ↔ ¬ A) (hB : x14 = 0 ↔ ¬ B) (hM : x15 = 0 ↔ ¬ M) (hD : z0 = 0 ↔ ¬ D) :
    wL_lawOf_167 post mc ms x1 x3 x6 x7 x8 x9 x10 x11 x12 x13 x14 x15 z0 kc ks := by
  obtain ⟨o1, o2, o3, o4, o5, o6, o7, o8, o9, o10, o11, o12⟩ := ok
  have k249 : ∀ {y0 y1 : Int32}, y1 = y0 → wL_lawOf_249 post mc ms x1 x11 x15 y0 y1 kc ks := fun e => mp_249 hp (fun h => o12 (hM.mp h)) (fun h => o11 (mp_fl hM h)) e
  have k224 : ∀ {y0 y1 : Int32}, y1 = y0 → wL_lawOf_224 post mc ms x1 x3 x10 x11 x15 z0 y0 y1 kc ks := fun e =>
    br_t e (br_c (fun h => k249 (o10 (hM.mp h))) (fun h => br_c (fun g => k249 (o9 (mp_fl hM h) (hD.mp g))) (fun g => k249 (o8 (mp_fl hM h) (mp_fl hD g)))))
  have k208 : ∀ {y0 y1 : Int32}, y1 = y0 → wL_lawOf_208 post mc ms x1 x3 x9 x10 x11 x15 z0 y0 y1 kc ks := fun e =>
    br_t e (br_c (fun h => k224 (o7 (hD.mp h))) (fun h => k224 (o6 (mp_fl hD h))))
  have k189 : ∀ {y0 y1 : Int32}, y1 = y0 → wL_lawOf_189 post mc ms x1 x3 x8 x9 x10 x11 x12 x14 x15 z0 y0 y1 kc ks := fun e =>
    br_t e (br_c (fun h => k208 (o5 (hB.mp h))) (fun h => k208 (o4 (mp_fl hB h))))
  exact br_t o1 (br_c (fun h => k189 (o3 (hA.mp h))) (fun h => k189 (o2 (mp_fl hA h))))
theorem mp_82 {k : Nat} {p m q w x6 x7 x8 x9 x10 x11 : Int32} (hk : k ≤ 5) (hp : post 1 ()) (ok : mp_OK (mp_In k p) (mp_In k q) (mp_Mv k p m) (mp_Dn k p m q w) p q x6 x7 x8 x9 x10 x11 (nI k)) :
    wL_lawOf_82 post mc ms p m q w x6 x7 x8 x9 x10 x11 (nI k) kc ks := by
  have k137 : ∀ {x13 x14 z0 : Int32}, (x13 = 0 ↔ ¬ mp_In k p) → (x14 = 0 ↔ ¬ mp_In k q) → (z0 = 0 ↔ ¬ mp_Mv k p m) → wL_lawOf_137 post mc ms p q w x6 x7 x8 x9 x10 x11 (nI k) x13 x14 z0 kc ks := fun hA hB hM =>
    br_c (fun h => mp_167 hp ok hA hB hM (mp_f0 (fun z => hM.mp h z.1)))
      (fun h => br_c (fun g => mp_167 hp ok hA hB hM (mp_f0 (fun z => hB.mp g z.2.1)))
        (fun g => br_c (fun w1 => mp_167 hp ok hA hB hM (mp_f0 (fun z => z.2.2.1 w1)))
          (fun w1 => br_c (fun w2 => mp_167 hp ok hA hB hM (mp_f0 (fun z => z.2.2.2 w2)))
            (fun w2 => mp_167 hp ok hA hB hM (mp_f1 ⟨mp_fl hM h, mp_fl hB g, w1, w2⟩)))))
  have k116 : ∀ {x13 z0 : Int32}, (x13 = 0 ↔ ¬ mp_In k p) → (z0 = 0 ↔ ¬ mp_In k q) → wL_lawOf_116 post mc ms p m q w x6 x7 x8 x9 x10 x11 (nI k) x13 z0 kc ks := fun hA hB =>
    br_c (fun h => k137 hA hB (mp_f0 (fun z => hA.mp h z.1)))
      (fun h => br_c (fun g => k137 hA hB (mp_f1 ⟨mp_fl hA h, Or.inl g⟩))
        (fun g => br_c (fun g2 => k137 hA hB (mp_f1 ⟨mp_fl hA h, Or.inr g2⟩))
          (fun g2 => k137 hA hB (mp_f0 (fun z => z.2.elim g g2)))))
  have k99 : ∀ {z0 : Int32}, (z0 = 0 ↔ ¬ mp_In k p) → wL_lawOf_99 post mc ms p m q w x6 x7 x8 x9 x10 x11 (nI k) z0 kc ks := fun hA =>
    mp_inl hk (fun h => k116 hA (mp_f0 h)) (fun h => k116 hA (mp_f1 h))
  exact mp_inl hk (fun h => k99 (mp_f0 h)) (fun h => k99 (mp_f1 h))
theorem mp_end {F : Int32 → Prop} {k : Nat} {p0 : Int32} (h1 : 1 ≤ k) (hk : k ≤ 5) (hz : mp_Sz p0 k) (h : F (nI k)) : (1 ≤ p0 → ((p0 ≤ 5 → F p0) ∧ (¬ p0 ≤ 5 → F 5))) ∧ (¬ 1 ≤ p0 → F 1) := by
  rcases hz with e | ⟨hn, h0, e⟩ | ⟨hn, e⟩
  · subst e
    exact br_t (nI_le (a := 1) h1 (by omega)) (br_t (nI_le (b := 5) hk (by decide)) h)
  · subst e
    exact br_t h0 (br_f hn h)
  · subst e
    exact br_f hn h
theorem mp_tail {k : Nat} {p0 p m q w : Int32} {r33 r57 : Int32} {sv : Int32} {a1 a2 a7 : Nat → Int32} (h1 : 1 ≤ k) (hk : k ≤ 5) (hz : mp_Sz p0 k) (hp : post 1 ()) (hG : mp_G k a2) (hP : mp_P k a1)
    (o2 : mp_In k p → r33 = 0) (o3 : ¬ mp_In k p → r33 = -100) (o4 : mp_In k q → r57 = nI k + 1) (o5 : ¬ mp_In k q → r57 = -100) :
    wpX_move (fun r_81 u => match u with | (n0, s0, b1, b2, b3, b4, b5, b6, b7) => (wpX_target (fun r_105 => (wpX_owner (fun r_106 u => match u with | (_, _, _, _, _, _, _, _, _) => (((1 ≤ p0 → (((p0 ≤ 5 → (wL_lawOf_82 post mc ms p m q w (nI k) r33 r57 r_81 r_105 r_106 p0 kc ks)) ∧ (¬ p0 ≤ 5 → (wL_lawOf_82 post mc ms p m q w (nI k) r33 r57 r_81 r_105 r_106 5 kc ks))))) ∧ (¬ 1 ≤ p0 → (wL_lawOf_82 post mc ms p m q w (nI k) r33 r57 r_81 r_105 r_106 1 kc ks))))) (n0, s0, b1, b2, b3, b4, b5, b6, b7) p m)) (n0, s0, b1, b2, b3, b4, b5, b6, b7) p m)) (nI k, sv, a1, a2, mp_Z, mp_Z, mp_Z, mp_Z, a7) p m q w := by
  refine mp_move hk (fun d b3 => mp_target hk (fun t => mp_owner hk hP (fun _ u => ?_) (fun n u => absurd t n)) (fun n => absurd d.1 n)) (fun d => mp_target hk (fun t => mp_owner hk hP (fun _ u => ?_) (fun n u => absurd t n)) (fun t => mp_owner hk hP (fun n u => absurd n t) (fun _ u => ?_)))
  · obtain ⟨_, _, _, _, _, _, _, _, _⟩ := u
    exact mp_end (F := fun z => wL_lawOf_82 post mc ms p m q w (nI k) r33 r57 0 _ (1 - (p &&& 1)) z kc ks) h1 hk hz (mp_82 hk hp ⟨rfl, o2, o3, o4, o5, fun _ => rfl, fun n => absurd d n, fun _ _ => pk_us, fun _ n => absurd d n, fun n => absurd t n, fun _ => rfl, fun n => absurd t n⟩)
  · obtain ⟨_, _, _, _, _, _, _, _, _⟩ := u
    exact mp_end (F := fun z => wL_lawOf_82 post mc ms p m q w (nI k) r33 r57 (-100) _ (1 - (p &&& 1)) z kc ks) h1 hk hz (mp_82 hk hp ⟨rfl, o2, o3, o4, o5, fun n => absurd n d, fun _ => rfl, fun _ n => absurd n d, fun _ _ => mp_ixG hk hG t, fun n => absurd t n, fun _ => rfl, fun n => absurd t n⟩)
  · obtain ⟨_, _, _, _, _, _, _, _, _⟩ := u
    exact mp_end (F := fun z => wL_lawOf_82 post mc ms p m q w (nI k) r33 r57 (-100) (-100) (-100) z kc ks) h1 hk hz (mp_82 hk hp ⟨rfl, o2, o3, o4, o5, fun n => absurd n d, fun _ => rfl, fun n => absurd n t, fun n => absurd n t, fun _ => rfl, fun n => absurd n t, fun _ => rfl⟩)
theorem mp_lawOf {p0 p m q w : Int32} (hp : post 1 ()) : wpL_lawOf post 8 54 () p0 p m q w := by
  obtain ⟨k, h1, hk, hz⟩ := mp_sz p0
  unfold wpL_lawOf
  refine ⟨by omega, by omega, 7, 45, by omega, by omega, ?_⟩
  refine mp_init h1 hk hz (fun a1 a2 hP hG => ?_)
  unfold wpX_places
  refine mp_num hk hG (Or.inl rfl) (fun i sv a7 hS => ?_) (fun i => ?_)
  · exact mp_gifts hk hG hS hP (fun j sv a1 a7 _ hP => mp_tail h1 hk hz hp hG hP (fun _ => rfl) (fun n => absurd i n) (fun _ => (nI_1 k).symm) (fun n => absurd j n))
      (fun j => mp_tail h1 hk hz hp hG hP (fun _ => rfl) (fun n => absurd i n) (fun n => absurd n j) (fun _ => rfl))
  · exact mp_gifts hk hG (Or.inl rfl) hP (fun j sv a1 a7 _ hP => mp_tail h1 hk hz hp hG hP (fun n => absurd n i) (fun _ => rfl) (fun _ => (nI_1 k).symm) (fun n => absurd j n))
      (fun j => mp_tail h1 hk hz hp hG hP (fun n => absurd n i) (fun _ => rfl) (fun n => absurd n j) (fun _ => rfl))
end
theorem mp_cell {post : Int32 → Prop} {L : Nat} {xs : Nat → Int32} {x : Int32} (i : Nat) (hL : L ≤ 5) (h : ∀ r, post r) (hi : i < 5 := by omega) (hx : x = nI i := by rfl) : wpL_cellAt post L xs () x := by
  subst hx
  unfold wpL_cellAt
  exact pk_le L i (fun _ => h _) (fun z => ⟨pk_in i L z, h _⟩)
end
section
theorem i_vc (xs : Nat → Int32) (L : Nat) (hL : L ≤ 5) : wpL_law (fun r => r = 1) L xs := by
  unfold wpL_law
  exact mp_cell 0 hL (fun r1 => mp_cell 1 hL (fun r2 => mp_cell 2 hL (fun r3 => mp_cell 3 hL (fun r4 => mp_cell 4 hL (fun r5 => ⟨8, 54, by omega, by omega, mp_lawOf rfl⟩)))))
end
