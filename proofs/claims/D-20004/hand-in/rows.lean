section
/-! the pure picture: which places of b open a run, how many do below i, and b squeezed up to the p-th run's head -/
/-- place i stays: it opens a run of equal neighbours -/
abbrev sq_st (b : Nat → Int32) (i : Nat) : Prop := i = 0 ∨ ¬ b i = b (i - 1)
/-- how many places below i stay -/
def sq_ct (b : Nat → Int32) : Nat → Nat
  | 0 => 0
  | i + 1 => if sq_st b i then sq_ct b i + 1 else sq_ct b i
theorem sq_ct_t {b : Nat → Int32} {i : Nat} (h : sq_st b i) : sq_ct b (i + 1) = sq_ct b i + 1 := by
  rw [sq_ct, if_pos h]
theorem sq_ct_f {b : Nat → Int32} {i : Nat} (h : ¬ sq_st b i) : sq_ct b (i + 1) = sq_ct b i := by
  rw [sq_ct, if_neg h]
theorem sq_ct_le (b : Nat → Int32) (i : Nat) : sq_ct b i ≤ i := by
  induction i with
  | zero => exact Nat.le_refl 0
  | succ i ih =>
    by_cases h : sq_st b i
    · rw [sq_ct_t h]
      omega
    · rw [sq_ct_f h]
      omega
theorem sq_ct_mono (b : Nat → Int32) (i d : Nat) : sq_ct b i ≤ sq_ct b (i + d) := by
  induction d with
  | zero => exact Nat.le_refl _
  | succ d ih =>
    rw [show i + (d + 1) = (i + d) + 1 from rfl]
    by_cases h : sq_st b (i + d)
    · rw [sq_ct_t h]
      omega
    · rw [sq_ct_f h]
      omega
theorem sq_ct_lt {b : Nat → Int32} {i j : Nat} (h : sq_st b i) (hij : i < j) : sq_ct b i < sq_ct b j := by
  have m := sq_ct_mono b (i + 1) (j - (i + 1))
  rw [show i + 1 + (j - (i + 1)) = j by omega, sq_ct_t h] at m
  omega
theorem sq_ct_pos (b : Nat → Int32) {j : Nat} (h : 0 < j) : 0 < sq_ct b j := by
  have m := sq_ct_lt (b := b) (i := 0) (j := j) (Or.inl rfl) h
  omega
theorem sq_inj {b : Nat → Int32} {i j : Nat} (hi : sq_st b i) (hj : sq_st b j) (e : sq_ct b i = sq_ct b j) : i = j := by
  rcases Nat.lt_trichotomy i j with h | h | h
  · have t := sq_ct_lt hi h
    omega
  · exact h
  · have t := sq_ct_lt hj h
    omega
theorem sq_ex (b : Nat → Int32) (N p : Nat) (h : p < sq_ct b N) : ∃ i, i < N ∧ sq_st b i ∧ sq_ct b i = p := by
  induction N with
  | zero => exact absurd h (Nat.not_lt_zero p)
  | succ N ih =>
    by_cases hs : sq_st b N
    · rw [sq_ct_t hs] at h
      by_cases e : sq_ct b N = p
      · exact ⟨N, Nat.lt_succ_self N, hs, e⟩
      · obtain ⟨i, h1, h2, h3⟩ := ih (by omega)
        exact ⟨i, Nat.lt_succ_of_lt h1, h2, h3⟩
    · rw [sq_ct_f hs] at h
      obtain ⟨i, h1, h2, h3⟩ := ih h
      exact ⟨i, Nat.lt_succ_of_lt h1, h2, h3⟩
/-- a holds the heads of b's first p runs in front, and b from p on -/
def sq_I (b a : Nat → Int32) (p : Nat) : Prop := (∀ j, sq_st b j → sq_ct b j < p → a (sq_ct b j) = b j) ∧ (∀ k, p ≤ k → a k = b k)
theorem sq_I0 (b : Nat → Int32) : sq_I b b 0 := ⟨fun j _ h => absurd h (Nat.not_lt_zero _), fun _ _ => rfl⟩
theorem sq_add {b a : Nat → Int32} {p i : Nat} (h : sq_I b a p) (hs : sq_st b i) (e : sq_ct b i = p) : sq_I b (upd a p (b i)) (p + 1) := by
  refine ⟨fun j hj hp => ?_, fun k hk => ?_⟩
  · by_cases ej : sq_ct b j = p
    · have t : j = i := sq_inj hj hs (by omega)
      rw [ej, pk_us, t]
    · rw [pk_un ej]
      exact h.1 j hj (by omega)
  · rw [pk_un (by omega)]
    exact h.2 k (by omega)
theorem sq_same {b a a' : Nat → Int32} {N : Nat} (h : sq_I b a (sq_ct b N)) (h' : sq_I b a' (sq_ct b N)) (k : Nat) : a k = a' k := by
  by_cases hk : k < sq_ct b N
  · obtain ⟨i, _, hs, e⟩ := sq_ex b N k hk
    have t := h.1 i hs (by omega)
    have t' := h'.1 i hs (by omega)
    rw [e] at t t'
    rw [t, t']
  · rw [h.2 k (by omega), h'.2 k (by omega)]
end
section
/-! the class's squeezeRuns: read = i, write = how many stay below i -/
theorem sq_x0 {post : Int32 → St1 → Prop} {b : Nat → Int32} {N : Nat} (hN : N ≤ 8) (H : ∀ a, sq_I b a (sq_ct b N) → post (nI (sq_ct b N)) (a, N)) : wpX0_squeezeRuns post (b, N) := by
  unfold wpX0_squeezeRuns
  dsimp only
  refine pk_eq N 0 (fun z => ?_) (fun z => ?_)
  · subst z
    exact H b (sq_I0 b)
  · have c1 : sq_ct b 1 = 1 := sq_ct_t (b := b) (i := 0) (Or.inl rfl)
    have L := pk_loop (fun n i s => wX0_squeezeRuns_11 post N n (nI (sq_ct b i)) (nI i) s) (fun i s => 1 ≤ i ∧ sq_I b s (sq_ct b i) ∧ s (sq_ct b i - 1) = b (i - 1)) N 1 b (by omega) ?_ ?_ ?_
    · obtain ⟨n, hn⟩ := L
      have hn' : wX0_squeezeRuns_11 post N n (nI (sq_ct b 1)) (nI 1) b := hn
      rw [c1] at hn'
      exact ⟨n, hn'⟩
    · refine ⟨Nat.le_refl 1, ?_, ?_⟩
      · rw [c1]
        exact ⟨fun j hj hp => by
          have t : j = 0 := sq_inj hj (Or.inl rfl) (show sq_ct b j = 0 by omega)
          rw [t]
          rfl, fun _ _ => rfl⟩
      · rw [c1]
    · exact fun n s h => pk_le N N (fun _ => H s h.2.1) (fun z => absurd z (by omega))
    · intro n i s hi h hw
      obtain ⟨h1, h2, h3⟩ := h
      have hle := sq_ct_le b i
      have hpos := sq_ct_pos b h1
      obtain ⟨p, hp⟩ : ∃ p, sq_ct b i = p + 1 := ⟨sq_ct b i - 1, by omega⟩
      have hw' : ∀ s', (1 ≤ i + 1 ∧ sq_I b s' (sq_ct b (i + 1)) ∧ s' (sq_ct b (i + 1) - 1) = b i) → wX0_squeezeRuns_11 post N n (nI (sq_ct b (i + 1))) (nI (i + 1)) s' := hw
      show wX0_squeezeRuns_11 post N (n + 1) (nI (sq_ct b i)) (nI i) s
      rw [hp] at h2 h3 hle ⊢
      have ep : s p = b (i - 1) := h3
      have ei : s i = b i := h2.2 i hle
      refine pk_le N i (fun z => absurd z (by omega)) (fun _ => ⟨pk_in i N hi, ?_⟩)
      rw [nI_pred p, nI_clamp (show i < 2 ^ 31 by omega), nI_clamp (show p < 2 ^ 31 by omega), nI_clamp (show p + 1 < 2 ^ 31 by omega)]
      refine ⟨pk_in p N (by omega), ?_⟩
      by_cases e : s i = s p
      · have hs : ¬ sq_st b i := by
          intro z
          rcases z with z | z
          · omega
          · exact z (by rw [← ei, ← ep]; exact e)
        have t := hw' s
        rw [sq_ct_f hs, hp] at t
        exact br_t e (nm_r (nI_1 i) (t ⟨by omega, h2, by rw [← ei, e]; rfl⟩))
      · have hs : sq_st b i := Or.inr (by rw [← ei, ← ep]; exact e)
        have t := hw' (upd s (p + 1) (b i))
        rw [sq_ct_t hs, hp] at t
        exact br_f e (nm_r (nI_1 (p + 1)) ⟨pk_in i N hi, pk_in (p + 1) N (by omega), nm_r (by rw [ei]) (nm_r (nI_1 i) (t ⟨by omega, sq_add h2 hs hp, pk_us⟩))⟩)
end
section
/-! the twin: stays, placeOfStay, the count, the copies -/
theorem sq_stays {post : Int32 → Prop} {b : Nat → Int32} {N i : Nat} (hN : N ≤ 8) (hi : i < N) (h1 : sq_st b i → post 1) (h0 : ¬ sq_st b i → post 0) : wpX1_stays post (b, N) (nI i) := by
  unfold wpX1_stays
  dsimp only
  refine pk_eq i 0 (fun z => h1 (Or.inl z)) (fun z => ?_)
  obtain ⟨k, rfl⟩ : ∃ k, i = k + 1 := ⟨i - 1, by omega⟩
  rw [nI_pred k, nI_clamp (show k + 1 < 2 ^ 31 by omega), nI_clamp (show k < 2 ^ 31 by omega)]
  refine ⟨pk_in (k + 1) N hi, pk_in k N (by omega), br_c (fun e => h0 (fun y => ?_)) (fun e => h1 (Or.inr e))⟩
  rcases y with y | y
  · omega
  · exact y e
theorem sq_place {post : Int32 → Prop} {b : Nat → Int32} {N e : Nat} (hN : N ≤ 8) (he : e < N) (hs : sq_st b e) (H : post (nI e)) : wpX1_placeOfStay post (b, N) (nI (sq_ct b e)) := by
  have hle := sq_ct_le b e
  unfold wpX1_placeOfStay
  dsimp only
  refine pk_loop (σ := Unit) (fun n i _ => wX1_placeOfStay_4 post (nI (sq_ct b e)) b N n (nI (sq_ct b i)) (nI i)) (fun _ _ => True) e 0 () (Nat.zero_le e) trivial ?_ ?_
  · exact fun n _ _ => pk_le N e (fun z => absurd z (by omega)) (fun _ => sq_stays hN he (fun _ => br_f (by decide) (br_t rfl H)) (fun z => absurd hs z))
  · intro n i _ hi _ hw
    have hli := sq_ct_le b i
    have t : wX1_placeOfStay_4 post (nI (sq_ct b e)) b N n (nI (sq_ct b (i + 1))) (nI (i + 1)) := hw () trivial
    refine pk_le N i (fun z => absurd z (by omega)) (fun _ => sq_stays hN (by omega) (fun z => ?_) (fun z => ?_))
    · have hlt := sq_ct_lt z hi
      rw [sq_ct_t z] at t
      exact br_f (by decide) (pk_eq (sq_ct b i) (sq_ct b e) (fun y => absurd y (by omega)) (fun _ => nm_r (nI_1 _) (nm_r (nI_1 i) t)))
    · rw [sq_ct_f z] at t
      exact br_t rfl (nm_r (nI_1 i) t)
theorem sq_37 {post : Int32 → St1 → Prop} {mc ms kc ks : Nat} {b : Nat → Int32} {N : Nat} (hN : N ≤ 8) (H : ∀ a, sq_I b a (sq_ct b N) → post (nI (sq_ct b N)) (a, N)) : ∃ n, wX1_squeezeRuns_37 post mc ms (nI (sq_ct b N)) kc ks N N n 0 b b := by
  have hle := sq_ct_le b N
  refine pk_loop (fun n i s => wX1_squeezeRuns_37 post mc ms (nI (sq_ct b N)) kc ks N N n (nI i) s b) (fun i s => sq_I b s i) (sq_ct b N) 0 b (Nat.zero_le _) (sq_I0 b) ?_ ?_
  · exact fun n s h => pk_le (sq_ct b N) (sq_ct b N) (fun _ => H s h) (fun z => absurd z (by omega))
  · intro n i s hi h hw
    refine pk_le (sq_ct b N) i (fun z => absurd z (by omega)) (fun _ => ?_)
    obtain ⟨e, he, hs, rfl⟩ := sq_ex b N i hi
    exact sq_place hN he hs ⟨pk_in e N he, pk_in (sq_ct b e) N (by omega), nm_r (e' := upd s (sq_ct b e) (b e)) (by rw [nI_clamp (show sq_ct b e < 2 ^ 31 by omega), nI_clamp (show e < 2 ^ 31 by omega)]) (nm_r (nI_1 _) (hw _ (sq_add h hs rfl)))⟩
theorem sq_12 {post : Int32 → St1 → Prop} {mc ms kc ks : Nat} {b : Nat → Int32} {N : Nat} (hN : N ≤ 8) (H : ∀ a, sq_I b a (sq_ct b N) → post (nI (sq_ct b N)) (a, N)) : ∃ n, wX1_squeezeRuns_12 post mc ms kc ks b N b N n 0 0 := by
  refine pk_loop (σ := Unit) (fun n i _ => wX1_squeezeRuns_12 post mc ms kc ks b N b N n (nI (sq_ct b i)) (nI i)) (fun _ _ => True) N 0 () (Nat.zero_le N) trivial ?_ ?_
  · exact fun n _ _ => pk_le N N (fun _ => sq_37 hN H) (fun z => absurd z (by omega))
  · intro n i _ hi _ hw
    have t : wX1_squeezeRuns_12 post mc ms kc ks b N b N n (nI (sq_ct b (i + 1))) (nI (i + 1)) := hw () trivial
    refine pk_le N i (fun z => absurd z (by omega)) (fun _ => sq_stays hN hi (fun z => ?_) (fun z => ?_))
    · rw [sq_ct_t z] at t
      exact br_f (by decide) (nm_r (nI_1 _) (nm_r (nI_1 i) t))
    · rw [sq_ct_f z] at t
      exact br_t rfl (nm_r (nI_1 i) t)
theorem sq_x1 {post : Int32 → St1 → Prop} {mc ms : Nat} {b : Nat → Int32} {N : Nat} (hN : N ≤ 8) (hmc : 1 ≤ mc) (hms : N ≤ ms) (H : ∀ a, sq_I b a (sq_ct b N) → post (nI (sq_ct b N)) (a, N)) : wpX1_squeezeRuns post mc ms (b, N) := by
  unfold wpX1_squeezeRuns
  dsimp only
  exact ⟨hmc, by omega, sq_12 hN H⟩
end
section
/-! the law: two arrays of the same ints, squeezed by the class and by the twin -/
theorem sq_80 {post : Int32 → St0 → Prop} {mc ms kc ks N : Nat} {a a' : Nat → Int32} (hN : N ≤ 8) (h : ∀ k, a k = a' k) (H : post 1 ()) : ∃ n, wL_lawOf_80 post mc ms (nI N) kc ks a N a' N n 0 :=
  pk_loop (σ := Unit) (fun n i _ => wL_lawOf_80 post mc ms (nI N) kc ks a N a' N n (nI i)) (fun _ _ => True) N 0 () (Nat.zero_le N) trivial
    (fun n _ _ => pk_le N N (fun _ => H) (fun z => absurd z (by omega)))
    (fun n i _ hi _ hw => pk_le N i (fun z => absurd z (by omega)) (fun _ => ⟨pk_in i N hi, pk_in i N hi, br_t (h _) (nm_r (nI_1 i) (hw () trivial))⟩))
theorem sq_24 {post : Int32 → St0 → Prop} {mc ms kc ks N : Nat} {x0 x1 : Int32} {s : Nat → Int32} (hN : N ≤ 8) (hmc : kc + 1 ≤ mc) (hms : ks + N ≤ ms) (H : post 1 ()) : ∃ n, wL_lawOf_24 post mc ms x0 x1 (nI N) kc ks N N n 0 s s :=
  pk_loop (fun n i s => wL_lawOf_24 post mc ms x0 x1 (nI N) kc ks N N n (nI i) s s) (fun _ _ => True) N 0 s (Nat.zero_le N) trivial
    (fun n s _ => pk_le N N (fun _ => sq_x0 hN (fun a ha => ⟨1, N, hmc, hms, sq_x1 hN (Nat.le_refl 1) (Nat.le_refl N) (fun a' ha' => br_t rfl (sq_80 hN (sq_same ha ha') H))⟩)) (fun z => absurd z (by omega)))
    (fun n i s hi _ hw => pk_le N i (fun z => absurd z (by omega)) (fun _ => nm_e ⟨pk_in i N hi, nm_e ⟨pk_in i N hi, nm_e (nm_r (nI_1 i) (hw _ trivial))⟩⟩))
theorem sq_law {post : Int32 → St0 → Prop} (p0 p1 p2 : Int32) (H : post 1 ()) : wpL_lawOf post 3 24 () p0 p1 p2 := by
  obtain ⟨j, hj, ej⟩ := pk_andE p2 (m := 7) 3 (by decide)
  obtain ⟨k, hk, ek⟩ := pk_andE ((p2.toUInt32 >>> ((3 : Int32).toUInt32 &&& Int32.toUInt32 31)).toInt32) (m := 1) 1 (by decide)
  obtain ⟨N, eN⟩ : ∃ N, j + k = N := ⟨_, rfl⟩
  have hN : N ≤ 8 := by omega
  unfold wpL_lawOf
  rw [ej, ek, nI_add, eN]
  exact nm_e ⟨nI_pos (by omega), nm_r (nI_clamp (by omega)) ⟨by omega, by omega, by omega, nI_pos (by omega), nm_r (nI_clamp (by omega)) ⟨by omega, by omega, by omega, sq_24 hN (by omega) (by omega) H⟩⟩⟩
theorem sq_cell {post : Int32 → Prop} {L : Nat} {xs : Nat → Int32} (k : Nat) (hL : L ≤ 3) (hk : k ≤ 3) (H : ∀ r, post r) : wpL_cellAt post L xs () (nI k) :=
  pk_le L k (fun _ => H _) (fun z => ⟨pk_in k L z, H _⟩)
theorem i_vc (xs : Nat → Int32) (L : Nat) (hL : L ≤ 3) : wpL_law (fun r => r = 1) L xs :=
  sq_cell 0 hL (by omega) (fun _ => sq_cell 1 hL (by omega) (fun _ => sq_cell 2 hL (by omega) (fun _ => ⟨3, 24, by omega, by omega, sq_law _ _ _ rfl⟩)))
end
