section
/-! the picture: base and urgency and stamp of each thread as naturals, whether it waits (at lock 1) as a Bool -/
def ql_up {α : Type} (f : Nat → α) (k : Nat) (x : α) : Nat → α := fun j => if j = k then x else f j
theorem ql_us {α : Type} {f : Nat → α} {k : Nat} {x : α} : ql_up f k x k = x := if_pos rfl
theorem ql_un {α : Type} {f : Nat → α} {k j : Nat} {x : α} (h : j ≠ k) : ql_up f k x j = f j := if_neg h
/-- what waitsAt holds: lock 1, or -1 -/
def ql_w (b : Bool) : Int32 := match b with
  | true => 1
  | false => -1
theorem ql_b : ∀ n, n < 10 → (nI n).toInt8.toInt32 = nI n := by decide +kernel
theorem ql_m1 : ∀ n, n < 10 → ¬ (-1 : Int32) = nI n := by decide +kernel
def ql_K (B U T : Nat → Nat) (W : Nat → Bool) (a1 a2 a3 a4 : Nat → Int32) : Prop :=
  ∀ j, j < 6 → (a1 j = nI (B j) ∧ B j < 10) ∧ (a2 j = nI (U j) ∧ U j < 10) ∧ a3 j = ql_w (W j) ∧ (a4 j = nI (T j) ∧ T j < 10)
theorem ql_KB {B U T : Nat → Nat} {W : Nat → Bool} {a1 a2 a3 a4 : Nat → Int32} (h : ql_K B U T W a1 a2 a3 a4) {k x : Nat} (hx : x < 10) : ql_K (ql_up B k x) U T W (upd a1 k (nI x)) a2 a3 a4 := by
  intro j hj
  obtain ⟨h1, h2, h3, h4⟩ := h j hj
  by_cases e : j = k
  · rw [e, ql_us, pk_us, ← e]
    exact ⟨⟨rfl, hx⟩, h2, h3, h4⟩
  · rw [ql_un e, pk_un e]
    exact ⟨h1, h2, h3, h4⟩
theorem ql_KU {B U T : Nat → Nat} {W : Nat → Bool} {a1 a2 a3 a4 : Nat → Int32} (h : ql_K B U T W a1 a2 a3 a4) {k x : Nat} (hx : x < 10) : ql_K B (ql_up U k x) T W a1 (upd a2 k (nI x)) a3 a4 := by
  intro j hj
  obtain ⟨h1, h2, h3, h4⟩ := h j hj
  by_cases e : j = k
  · rw [e, ql_us, pk_us, ← e]
    exact ⟨h1, ⟨rfl, hx⟩, h3, h4⟩
  · rw [ql_un e, pk_un e]
    exact ⟨h1, h2, h3, h4⟩
theorem ql_KW {B U T : Nat → Nat} {W : Nat → Bool} {a1 a2 a3 a4 : Nat → Int32} (h : ql_K B U T W a1 a2 a3 a4) {k : Nat} {b : Bool} {y : Int32} (hy : y = ql_w b) : ql_K B U T (ql_up W k b) a1 a2 (upd a3 k y) a4 := by
  intro j hj
  obtain ⟨h1, h2, h3, h4⟩ := h j hj
  by_cases e : j = k
  · rw [e, ql_us, pk_us, ← e]
    exact ⟨h1, h2, hy, h4⟩
  · rw [ql_un e, pk_un e]
    exact ⟨h1, h2, h3, h4⟩
theorem ql_KT {B U T : Nat → Nat} {W : Nat → Bool} {a1 a2 a3 a4 : Nat → Int32} (h : ql_K B U T W a1 a2 a3 a4) {k x : Nat} (hx : x < 10) : ql_K B U (ql_up T k x) W a1 a2 a3 (upd a4 k (nI x)) := by
  intro j hj
  obtain ⟨h1, h2, h3, h4⟩ := h j hj
  by_cases e : j = k
  · rw [e, ql_us, pk_us, ← e]
    exact ⟨h1, h2, h3, ⟨rfl, hx⟩⟩
  · rw [ql_un e, pk_un e]
    exact ⟨h1, h2, h3, h4⟩
/-- what lent(k) has after i turns: hh is lock 1's holder -/
def ql_L (B U : Nat → Nat) (W : Nat → Bool) (hh : Int32) (k i m : Nat) : Prop :=
  (m = B k ∨ ∃ s, s < i ∧ W s = true ∧ hh = nI k ∧ m = U s) ∧ B k ≤ m ∧ ∀ s, s < i → W s = true → hh = nI k → U s ≤ m
theorem ql_Ln {B U : Nat → Nat} {W : Nat → Bool} {hh : Int32} {k i m : Nat} (h : ql_L B U W hh k i m) (hi : W i = true → hh = nI k → U i ≤ m) : ql_L B U W hh k (i + 1) m := by
  obtain ⟨h1, h2, h3⟩ := h
  refine ⟨?_, h2, fun s hs hw he => ?_⟩
  · rcases h1 with e | ⟨s, hs, hw⟩
    · exact Or.inl e
    · exact Or.inr ⟨s, by omega, hw⟩
  · by_cases e : s = i
    · rw [e] at hw ⊢
      exact hi hw he
    · exact h3 s (by omega) hw he
theorem ql_Ls {B U : Nat → Nat} {W : Nat → Bool} {hh : Int32} {k i m : Nat} (h : ql_L B U W hh k i m) (hw : W i = true) (he : hh = nI k) (hm : m < U i) : ql_L B U W hh k (i + 1) (U i) := by
  obtain ⟨h1, h2, h3⟩ := h
  refine ⟨Or.inr ⟨i, by omega, hw, he, rfl⟩, by omega, fun s hs hw' he' => ?_⟩
  by_cases e : s = i
  · rw [e]
    exact Nat.le_refl _
  · have := h3 s (by omega) hw' he'
    omega
/-- nobody that waits waits for k: its base alone -/
theorem ql_L0 {B U : Nat → Nat} {W : Nat → Bool} {hh : Int32} {k i m : Nat} (h : ql_L B U W hh k i m) (hn : ∀ s, s < i → W s = true → ¬ hh = nI k) : m = B k := by
  rcases h.1 with e | ⟨s, hs, hw, he, _⟩
  · exact e
  · exact absurd he (hn s hs hw)
theorem ql_isT {post : Int32 → Prop} {k : Nat} (hk : k < 6) (h : post 1) : wpX_isThread post () (nI k) :=
  br_f (nI_pos (by omega)) (br_f (nI_ge (b := 6) hk (by decide)) h)
theorem ql_isL {post : Int32 → Prop} (h : post 1) : wpX_isLock post () 1 :=
  br_f (by decide) (br_f (by decide) h)
theorem ql_lent {post : Int32 → Prop} {st : Int32} {a1 a2 a3 a4 a5 : Nat → Int32} {B U T : Nat → Nat} {W : Nat → Bool} (K : ql_K B U T W a1 a2 a3 a4) {k : Nat} (hk : k < 6)
    (H : ∀ m, m < 10 → ql_L B U W (a5 1) k 6 m → post (nI m)) : wpX_lent post (st, a1, a2, a3, a4, a5) (nI k) := by
  refine ⟨pk_in k 6 hk, nm_r (e' := nI (B k)) ?_ ?_⟩
  · rw [nI_clamp (by omega)]
    exact (K k hk).1.1
  · refine pk_loop (fun n i (s : Nat) => wX_lent_9 post (nI k) st a1 a2 a3 a4 a5 n (nI s) (nI i)) (fun i s => s < 10 ∧ ql_L B U W (a5 1) k i s) 6 0 (B k) (by omega) ⟨(K k hk).1.2, Or.inl rfl, Nat.le_refl _, fun s hs => absurd hs (by omega)⟩ ?_ ?_
    · intro n s h
      exact pk_le 6 6 (fun _ => H s h.1 h.2) (fun z => absurd z (by omega))
    · intro n i s hi h hw
      obtain ⟨hs, hL⟩ := h
      obtain ⟨h1, h2, h3, h4⟩ := K i hi
      refine pk_le 6 i (fun z => absurd z (by omega)) (fun _ => ⟨pk_in i 6 hi, ?_⟩)
      rw [nI_clamp (show i < 2 ^ 31 by omega), h3]
      cases hW : W i with
      | false => exact br_t (by decide) (br_t rfl (nm_r (nI_1 i) (hw s ⟨hs, ql_Ln hL (fun z => absurd (hW.symm.trans z) (by decide))⟩)))
      | true =>
        refine br_f (by decide) ⟨pk_in i 6 hi, vp_in_iff.mpr (by decide), ?_⟩
        have e1 : (ql_w true).toNatClampNeg = 1 := by decide
        rw [e1]
        refine br_c (fun e => br_f (by decide) ⟨pk_in i 6 hi, ?_⟩) (fun e => br_t rfl (nm_r (nI_1 i) (hw s ⟨hs, ql_Ln hL (fun _ z => absurd z e)⟩)))
        rw [nI_clamp (show i < 2 ^ 31 by omega), h2.1]
        have hU := h2.2
        exact pk_le (U i) s (fun z => nm_r (nI_1 i) (hw s ⟨hs, ql_Ln hL (fun _ _ => z)⟩)) (fun z => ⟨pk_in i 6 hi, nm_e (nm_r (nI_1 i) (hw (U i) ⟨hU, ql_Ls hL hW e z⟩))⟩)
theorem ql_refresh {post : St2 → Prop} {st : Int32} {a1 a2 a3 a4 a5 : Nat → Int32} {B U T : Nat → Nat} {W : Nat → Bool} (K : ql_K B U T W a1 a2 a3 a4) {k : Nat} (hk : k < 6) (hW : W k = false)
    (H : ∀ m, m < 10 → ql_L B U W (a5 1) k 6 m → post (st, a1, upd a2 k (nI m), a3, a4, a5)) : wpX_refresh post (st, a1, a2, a3, a4, a5) (nI k) := by
  refine ⟨0 + 1 + 1, pk_le 6 0 (fun z => absurd z (by omega)) (fun _ => br_f (nI_pos (by omega)) (ql_lent K hk (fun m hm hL => ⟨pk_in k 6 hk, ?_⟩)))⟩
  have E : ∀ z, wX_refresh_37 post (wX_refresh_4 post st (0 + 1)) (nI k) 0 (nI m) z st a1 a2 a3 a4 a5 := by
    intro z
    refine ⟨pk_in k 6 hk, nm_r (e' := upd a2 k (nI m)) (by rw [nI_clamp (by omega), ql_b m hm]) ?_⟩
    have J : wX_refresh_4 post st (0 + 1) (-1) (0 + 1) a1 (upd a2 k (nI m)) a3 a4 a5 :=
      br_f (by decide) (br_t (by decide) (H m hm hL))
    refine br_c (fun _ => ⟨pk_in k 6 hk, br_f ?_ (nm_e J)⟩) (fun _ => nm_e J)
    rw [nI_clamp (by omega), (K k hk).2.2.1, hW]
    decide
  exact br_c (fun _ => E 1) (fun _ => E 0)
end
section
theorem ql_setBase {post : Int32 → St2 → Prop} {st : Int32} {a1 a2 a3 a4 a5 : Nat → Int32} {B U T : Nat → Nat} {W : Nat → Bool} (K : ql_K B U T W a1 a2 a3 a4) {k u : Nat} (hk : k < 6) (hW : W k = false) (hu : u < 10)
    (H : ∀ m a1' a2', m < 10 → ql_L (ql_up B k u) U W (a5 1) k 6 m → ql_K (ql_up B k u) (ql_up U k m) T W a1' a2' a3 a4 → post 1 (st, a1', a2', a3, a4, a5)) :
    wpX_setBase post (st, a1, a2, a3, a4, a5) (nI k) (nI u) := by
  unfold wpX_setBase
  dsimp only
  refine ql_isT hk (br_f (by decide) (br_f (nI_pos (by omega)) (br_t (nI_le (b := 9) (by omega) (by decide)) ⟨pk_in k 6 hk, nm_r (e' := upd a1 k (nI u)) (by rw [nI_clamp (by omega), ql_b u hu]) ?_⟩)))
  exact ql_refresh (ql_KB K hu) hk hW (fun m hm hL => H m _ _ hm hL (ql_KU (ql_KB K hu) hm))
theorem ql_take0 {post : Int32 → St2 → Prop} {st : Int32} {a1 a2 a3 a4 a5 : Nat → Int32} {B U T : Nat → Nat} {W : Nat → Bool} (K : ql_K B U T W a1 a2 a3 a4) {k : Nat} (hk : k < 6) (hW : W k = false) (h5 : a5 1 = -1)
    (H : post 0 (st, a1, a2, a3, a4, upd a5 1 (nI k))) :
    wpX_take post (st, a1, a2, a3, a4, a5) (nI k) 1 := by
  unfold wpX_take
  dsimp only
  refine ql_isT hk (br_f (by decide) (ql_isL (br_f (by decide) ⟨pk_in k 6 hk, br_f ?_ ⟨pk_in 1 5 (by omega), br_f ?_ ⟨pk_in 1 5 (by omega), nm_r (e' := -1) h5 (br_f (by decide) ⟨pk_in 1 5 (by omega), nm_r (e' := upd a5 1 (nI k)) ?_ H⟩)⟩⟩⟩)))
  · rw [nI_clamp (by omega), (K k hk).2.2.1, hW]
    decide
  · show ¬ a5 1 = nI k
    rw [h5]
    exact ql_m1 k (by omega)
  · rw [ql_b k (by omega)]
    rfl
theorem ql_dep {post : Int32 → Prop} {st : Int32} {a1 a2 a3 a4 a5 : Nat → Int32} {B U T : Nat → Nat} {W : Nat → Bool} (K : ql_K B U T W a1 a2 a3 a4) {h : Nat} {p : Int32} (hh : h < 6) (hW : W h = false) (H : post 0) :
    wpX_dependsOn post (st, a1, a2, a3, a4, a5) (nI h) p := by
  refine ⟨0 + 1, pk_le 6 0 (fun z => absurd z (by omega)) (fun _ => ⟨pk_in h 6 hh, br_t ?_ H⟩)⟩
  rw [nI_clamp (by omega), (K h hh).2.2.1, hW]
  decide
theorem ql_take1 {post : Int32 → St2 → Prop} {a1 a2 a3 a4 a5 : Nat → Int32} {B U T : Nat → Nat} {W : Nat → Bool} (K : ql_K B U T W a1 a2 a3 a4) {k h t : Nat} (hk : k < 6) (hh : h < 6) (hn : h ≠ k) (hW : W k = false) (hV : W h = false) (ht : t < 10) (h5 : a5 1 = nI h)
    (H : ∀ m a2' a3' a4', m < 10 → ql_L B U (ql_up W k true) (a5 1) h 6 m → ql_K B (ql_up U h m) (ql_up T k t) (ql_up W k true) a1 a2' a3' a4' → post 1 (nI (t + 1), a1, a2', a3', a4', a5)) :
    wpX_take post (nI t, a1, a2, a3, a4, a5) (nI k) 1 := by
  unfold wpX_take
  dsimp only
  refine ql_isT hk (br_f (by decide) (ql_isL (br_f (by decide) ⟨pk_in k 6 hk, br_f ?_ ⟨pk_in 1 5 (by omega), br_f ?_ ⟨pk_in 1 5 (by omega), nm_r (e' := nI h) h5 (br_t (nI_pos' (by omega)) (ql_dep K hh hV (br_t rfl ⟨pk_in k 6 hk, nm_r (e' := upd a3 k 1) ?_ ⟨pk_in k 6 hk, nm_r (e' := upd a4 k (nI t)) ?_ (nm_r (nI_1 t) ?_)⟩⟩)))⟩⟩⟩)))
  · rw [nI_clamp (by omega), (K k hk).2.2.1, hW]
    decide
  · show ¬ a5 1 = nI k
    rw [h5, nI_eq (by omega) (by omega)]
    exact hn
  · rw [nI_clamp (by omega)]
    rfl
  · rw [nI_clamp (by omega)]
  · have K' : ql_K B U (ql_up T k t) (ql_up W k true) a1 a2 (upd a3 k 1) (upd a4 k (nI t)) := ql_KT (ql_KW K rfl) ht
    exact ql_refresh K' hh ((ql_un hn).trans hV) (fun m hm hL => H m _ _ _ hm hL (ql_KU K' hm))
theorem ql_urg {post : Int32 → Prop} {st : Int32} {a1 a2 a3 a4 a5 : Nat → Int32} {B U T : Nat → Nat} {W : Nat → Bool} (K : ql_K B U T W a1 a2 a3 a4) {k : Nat} (hk : k < 6) (H : post (nI (U k))) :
    wpX_urgency post (st, a1, a2, a3, a4, a5) (nI k) := by
  unfold wpX_urgency
  dsimp only
  refine ql_isT hk (br_f (by decide) ⟨pk_in k 6 hk, ?_⟩)
  rw [nI_clamp (by omega), (K k hk).2.1.1]
  exact H
/-- running() after i turns -/
def ql_R (U : Nat → Nat) (W : Nat → Bool) (i : Nat) (x : Int32) : Prop :=
  (x = -1 ∧ ∀ t, t < i → W t = true) ∨ ∃ n, x = nI n ∧ n < i ∧ W n = false ∧ ∀ t, t < i → W t = false → U t ≤ U n ∧ (t < n → U t < U n)
theorem ql_Rw {U : Nat → Nat} {W : Nat → Bool} {i : Nat} {x : Int32} (h : ql_R U W i x) (hW : W i = true) : ql_R U W (i + 1) x := by
  rcases h with ⟨e, h⟩ | ⟨n, e, hn, hw, h⟩
  · exact Or.inl ⟨e, lt_s h hW⟩
  · exact Or.inr ⟨n, e, by omega, hw, lt_s h (fun z => absurd (hW.symm.trans z) (by decide))⟩
theorem ql_running {post : Int32 → Prop} {st : Int32} {a1 a2 a3 a4 a5 : Nat → Int32} {B U T : Nat → Nat} {W : Nat → Bool} (K : ql_K B U T W a1 a2 a3 a4)
    (H : ∀ x, ql_R U W 6 x → post x) : wpX_running post (st, a1, a2, a3, a4, a5) := by
  refine pk_loop (fun n i (x : Int32) => wX_running_4 post st a1 a2 a3 a4 a5 n x (nI i)) (fun i x => ql_R U W i x) 6 0 (-1) (by omega) (Or.inl ⟨rfl, lt_0⟩) ?_ ?_
  · intro n x h
    exact pk_le 6 6 (fun _ => H x h) (fun z => absurd z (by omega))
  · intro n i x hi h hw
    obtain ⟨h1, h2, h3, h4⟩ := K i hi
    refine pk_le 6 i (fun z => absurd z (by omega)) (fun _ => ⟨pk_in i 6 hi, ?_⟩)
    rw [nI_clamp (show i < 2 ^ 31 by omega), h3]
    cases hW : W i with
    | true => exact br_t (by decide) (nm_r (nI_1 i) (hw x (ql_Rw h hW)))
    | false =>
      refine br_f (by decide) ?_
      rcases h with ⟨e, h⟩ | ⟨m, e, hm, hwm, h⟩
      · rw [e]
        refine br_t (by decide) (nm_r (nI_1 i) (hw (nI i) (Or.inr ⟨i, rfl, by omega, hW, fun t ht hwt => ?_⟩)))
        by_cases et : t = i
        · rw [et]
          exact ⟨Nat.le_refl _, fun z => absurd z (by omega)⟩
        · exact absurd ((h t (by omega)).symm.trans hwt) (by decide)
      · rw [e]
        refine br_f (nI_pos (by omega)) ⟨pk_in i 6 hi, pk_in m 6 (by omega), ?_⟩
        obtain ⟨_, g2, _, _⟩ := K m (by omega)
        rw [nI_clamp (show m < 2 ^ 31 by omega), h2.1, g2.1]
        have q1 := h2.2
        have q2 := g2.2
        refine pk_le (U i) (U m) (fun z => nm_r (nI_1 i) (hw (nI m) (Or.inr ⟨m, rfl, by omega, hwm, lt_s h (fun _ => ⟨z, fun y => absurd y (by omega)⟩)⟩))) (fun z => nm_r (nI_1 i) (hw (nI i) (Or.inr ⟨i, rfl, by omega, hW, fun t ht hwt => ?_⟩)))
        by_cases et : t = i
        · rw [et]
          exact ⟨Nat.le_refl _, fun y => absurd y (by omega)⟩
        · have := (h t (by omega) hwt).1
          exact ⟨by omega, fun _ => by omega⟩
/-- n is before t in lock 1's queue, or t itself -/
def ql_q (U T : Nat → Nat) (n t : Nat) : Prop := U t < U n ∨ (U t = U n ∧ T n ≤ T t)
/-- bestWaiting(1) after i turns -/
def ql_Q (U T : Nat → Nat) (W : Nat → Bool) (i : Nat) (x : Int32) : Prop :=
  (x = -1 ∧ ∀ t, t < i → W t = false) ∨ ∃ n, x = nI n ∧ n < i ∧ W n = true ∧ ∀ t, t < i → W t = true → ql_q U T n t
theorem ql_Qw {U T : Nat → Nat} {W : Nat → Bool} {i : Nat} {x : Int32} (h : ql_Q U T W i x) (hW : W i = false) : ql_Q U T W (i + 1) x := by
  rcases h with ⟨e, h⟩ | ⟨n, e, hn, hw, h⟩
  · exact Or.inl ⟨e, lt_s h hW⟩
  · exact Or.inr ⟨n, e, by omega, hw, lt_s h (fun z => absurd (hW.symm.trans z) (by decide))⟩
theorem ql_Qn {U T : Nat → Nat} {W : Nat → Bool} {i m : Nat} (hm : m < i) (hw : W m = true) (h : ∀ t, t < i → W t = true → ql_q U T m t) (hW : W i = true) (hq : U m < U i ∨ (U m = U i ∧ T i ≤ T m)) : ql_Q U T W (i + 1) (nI i) := by
  refine Or.inr ⟨i, rfl, by omega, hW, lt_s (fun t ht hwt => ?_) (fun _ => Or.inr ⟨rfl, Nat.le_refl _⟩)⟩
  have := h t ht hwt
  unfold ql_q at this ⊢
  omega
theorem ql_Qo {U T : Nat → Nat} {W : Nat → Bool} {i m : Nat} (hm : m < i) (hw : W m = true) (h : ∀ t, t < i → W t = true → ql_q U T m t) (hq : ql_q U T m i) : ql_Q U T W (i + 1) (nI m) :=
  Or.inr ⟨m, rfl, by omega, hw, lt_s h (fun _ => hq)⟩
theorem ql_best {post : Int32 → Prop} {st : Int32} {a1 a2 a3 a4 a5 : Nat → Int32} {B U T : Nat → Nat} {W : Nat → Bool} (K : ql_K B U T W a1 a2 a3 a4)
    (H : ∀ x, ql_Q U T W 6 x → post x) : wpX_bestWaiting post (st, a1, a2, a3, a4, a5) 1 := by
  refine pk_loop (fun n i (x : Int32) => wX_bestWaiting_4 post 1 st a1 a2 a3 a4 a5 n x (nI i)) (fun i x => ql_Q U T W i x) 6 0 (-1) (by omega) (Or.inl ⟨rfl, lt_0⟩) ?_ ?_
  · intro n x h
    exact pk_le 6 6 (fun _ => H x h) (fun z => absurd z (by omega))
  · intro n i x hi h hw
    obtain ⟨h1, h2, h3, h4⟩ := K i hi
    have q1 := h2.2
    have q3 := h4.2
    refine pk_le 6 i (fun z => absurd z (by omega)) (fun _ => ⟨pk_in i 6 hi, ?_⟩)
    rw [nI_clamp (show i < 2 ^ 31 by omega), h3]
    cases hW : W i with
    | false => exact br_f (by decide) (nm_r (nI_1 i) (hw x (ql_Qw h hW)))
    | true =>
      refine br_t (by decide) ?_
      rcases h with ⟨e, h⟩ | ⟨m, e, hm, hwm, h⟩
      · rw [e]
        refine br_t (by decide) (br_t (by decide) (br_f (by decide) (nm_r (nI_1 i) (hw (nI i) (Or.inr ⟨i, rfl, by omega, hW, lt_s (fun t ht z => absurd ((h t ht).symm.trans z) (by decide)) (fun _ => Or.inr ⟨rfl, Nat.le_refl _⟩)⟩)))))
      · rw [e]
        obtain ⟨_, g2, _, g4⟩ := K m (by omega)
        have q2 := g2.2
        have q4 := g4.2
        refine br_f (nI_pos (by omega)) ⟨pk_in i 6 hi, pk_in m 6 (by omega), ?_⟩
        have ci : (nI i).toNatClampNeg = i := nI_clamp (by omega)
        have cm : (nI m).toNatClampNeg = m := nI_clamp (by omega)
        have eU : a2 (nI i).toNatClampNeg = nI (U i) := by rw [ci]; exact h2.1
        have eV : a2 (nI m).toNatClampNeg = nI (U m) := by rw [cm]; exact g2.1
        have eT : a4 (nI i).toNatClampNeg = nI (T i) := by rw [ci]; exact h4.1
        have eS : a4 (nI m).toNatClampNeg = nI (T m) := by rw [cm]; exact g4.1
        refine pk_le (U i) (U m) (fun z => br_f (nI_pos (by omega)) ⟨pk_in i 6 hi, pk_in m 6 (by omega), ?_⟩) (fun z => br_f (nI_pos (by omega)) ⟨pk_in i 6 hi, pk_in m 6 (by omega), ?_⟩) h2.1 eV
        · refine pk_eq (U i) (U m) (fun y => ⟨pk_in i 6 hi, pk_in m 6 (by omega), ?_⟩) (fun y => br_t rfl (br_t rfl (nm_r (nI_1 i) (hw (nI m) (ql_Qo hm hwm h (Or.inl (by omega))))))) eU eV
          exact pk_le (T m) (T i) (fun y' => br_t rfl (br_t rfl (nm_r (nI_1 i) (hw (nI m) (ql_Qo hm hwm h (Or.inr ⟨y, y'⟩)))))) (fun y' => br_t rfl (br_f (by decide) (nm_r (nI_1 i) (hw (nI i) (ql_Qn hm hwm h hW (Or.inr ⟨y.symm, by omega⟩)))))) eS eT
        · refine pk_eq (U i) (U m) (fun y => absurd y (by omega)) (fun y => br_f (by decide) (nm_r (nI_1 i) (hw (nI i) (ql_Qn hm hwm h hW (Or.inl z))))) eU eV
theorem ql_give {post : Int32 → St2 → Prop} {st : Int32} {a1 a2 a3 a4 a5 : Nat → Int32} {B U T : Nat → Nat} {W : Nat → Bool} (K : ql_K B U T W a1 a2 a3 a4) {k w : Nat} (hk : k < 6) (hW : W k = false) (h5 : a5 1 = nI k) (hw : w < 6) (hWw : W w = true)
    (H : ∀ n m1 m2 a2' a3' a5', n < 6 → W n = true → (∀ t, t < 6 → W t = true → ql_q U T n t) → ql_L B (ql_up U n m1) (ql_up W n false) (nI n) k 6 m2 → ql_K B (ql_up (ql_up U n m1) k m2) T (ql_up W n false) a1 a2' a3' a4 → post (nI n) (st, a1, a2', a3', a4, a5')) :
    wpX_give post (st, a1, a2, a3, a4, a5) (nI k) 1 := by
  unfold wpX_give
  dsimp only
  refine ql_isT hk (br_f (by decide) (ql_isL (br_f (by decide) ⟨pk_in k 6 hk, br_f ?_ ⟨pk_in 1 5 (by omega), br_t h5 (ql_best K (fun x hx => ⟨pk_in 1 5 (by omega), ?_⟩))⟩⟩)))
  · rw [nI_clamp (by omega), (K k hk).2.2.1, hW]
    decide
  · rcases hx with ⟨_, h⟩ | ⟨n, e, hn, hwn, h⟩
    · exact absurd ((h w hw).symm.trans hWw) (by decide)
    · rw [e]
      have c1 : (1 : Int32).toNatClampNeg = 1 := by decide
      refine nm_r (e' := upd a5 1 (nI n)) (by rw [c1, ql_b n (by omega)]) (br_f (nI_pos (by omega)) ⟨pk_in n 6 hn, nm_r (e' := upd a3 n (-1)) (by rw [nI_clamp (by omega)]) ?_⟩)
      have K1 : ql_K B U T (ql_up W n false) a1 a2 (upd a3 n (-1)) a4 := ql_KW K rfl
      refine ql_refresh K1 hn ql_us (fun m1 hm1 hL1 => ?_)
      have hkn : k ≠ n := fun z => absurd (hW.symm.trans (z ▸ hwn)) (by decide)
      have K2 := ql_KU (k := n) K1 hm1
      refine ql_refresh K2 hk ((ql_un hkn).trans hW) (fun m2 hm2 hL2 => ?_)
      have hL3 : ql_L B (ql_up U n m1) (ql_up W n false) (upd a5 1 (nI n) 1) k 6 m2 := hL2
      rw [pk_us] at hL3
      exact H n m1 m2 _ _ _ hn hwn h hL3 (ql_KU K2 hm2)
end
section
theorem ql_init {post : St2 → Prop} (H : ∀ s h : Nat → Int32, (∀ j, j < 6 → s j = -1) → (∀ j, j < 5 → h j = -1) → post (0, fun _ => 0, fun _ => 0, s, fun _ => 0, h)) : wpX_init post 5 29 0 := by
  refine ⟨by omega, by omega, by omega, by omega, by omega, by omega, by omega, by omega, by omega, by omega, ?_⟩
  refine pk_loop (fun n i (s : Nat → Int32) => wX_init_45 post 5 29 5 29 0 n (nI i) (fun _ => 0) (fun _ => 0) s (fun _ => 0) (fun _ => 0)) (fun i s => ∀ j, j < i → s j = -1) 6 0 (fun _ => 0) (by omega) lt_0 ?_ ?_
  · intro n s hs
    refine pk_le 6 6 (fun _ => ?_) (fun z => absurd z (by omega))
    refine pk_loop (fun n i (h : Nat → Int32) => wX_init_66 post 5 29 5 29 0 n (nI i) (fun _ => 0) (fun _ => 0) s (fun _ => 0) h) (fun i h => ∀ j, j < i → h j = -1) 5 0 (fun _ => 0) (by omega) lt_0 ?_ ?_
    · intro n h hh
      exact pk_le 5 5 (fun _ => H s h hs hh) (fun z => absurd z (by omega))
    · intro n i h hi hh hw
      refine pk_le 5 i (fun z => absurd z (by omega)) (fun _ => ⟨pk_in i 5 hi, nm_r (e' := upd h i (-1)) (by rw [nI_clamp (by omega)]) (nm_r (nI_1 i) (hw _ (lt_s (fun j hj => ?_) pk_us)))⟩)
      rw [pk_un (by omega)]
      exact hh j hj
  · intro n i s hi hs hw
    refine pk_le 6 i (fun z => absurd z (by omega)) (fun _ => ⟨pk_in i 6 hi, nm_r (e' := upd s i (-1)) (by rw [nI_clamp (by omega)]) (nm_r (nI_1 i) (hw _ (lt_s (fun j hj => ?_) pk_us)))⟩)
    rw [pk_un (by omega)]
    exact hs j hj
/-- the law's lowest free bit -/
def ql_o (a b c : Nat) : Int32 := 63 &&& (((((1 : Int32) <<< (nI a &&& 31)) ||| ((1 : Int32) <<< (nI b &&& 31))) ||| ((1 : Int32) <<< (nI c &&& 31))) ^^^ (-1))
/-- r is the lowest thread but b and c -/
def ql_lr (b c r : Nat) : Bool := decide (r ≠ b ∧ r ≠ c ∧ ∀ t, t < r → (t = b ∨ t = c))
def ql_lb (a b c : Nat) : Bool := decide (ql_o a b c &&& (-(ql_o a b c)) ≤ ((1 : Int32) <<< (nI a &&& 31)))
def ql_d3 (a b c : Nat) : Bool := decide (a ≠ b ∧ a ≠ c ∧ b ≠ c)
theorem ql_lowD : ∀ a b c r : Fin 6, ql_d3 a.val b.val c.val = true → ql_lr b.val c.val r.val = true → ql_lb a.val b.val c.val = decide (¬ r.val = a.val) := by decide +kernel
theorem ql_low {a b c r : Nat} (ha : a < 6) (hb : b < 6) (hc : c < 6) (hab : a ≠ b) (hac : a ≠ c) (hbc : b ≠ c) (hr : r < 6) (hrb : r ≠ b) (hrc : r ≠ c) (h : ∀ t, t < r → t = b ∨ t = c) : (ql_o a b c &&& (-(ql_o a b c)) ≤ ((1 : Int32) <<< (nI a &&& 31)) ↔ ¬ r = a) := by
  have e : ql_lb a b c = decide (¬ r = a) := ql_lowD ⟨a, ha⟩ ⟨b, hb⟩ ⟨c, hc⟩ ⟨r, hr⟩ (decide_eq_true ⟨hab, hac, hbc⟩) (decide_eq_true ⟨hrb, hrc, h⟩)
  exact decide_eq_decide.mp e
theorem ql_177 {mc ms kc ks : Nat} {a b c m r n : Nat} (ha : a < 6) (hr : r < 6) (hm : m < 10) (h1 : 0 < m → r = a) (h0 : m = 0 → (ql_o a b c &&& (-(ql_o a b c)) ≤ ((1 : Int32) <<< (nI a &&& 31)) ↔ ¬ r = a)) :
    wL_lawOf_177 (fun r _ => r = 1) mc ms (nI a) (nI b) (nI c) 1 (nI m) (nI r) (nI n) 0 (nI m) (nI n) kc ks := by
  have Y : r = a → wL_lawOf_222 (fun r _ => r = 1) mc ms (nI a) 1 (nI m) (nI r) (nI n) 0 (nI m) (nI n) kc ks :=
    fun e => br_t rfl (br_t rfl (br_t (by rw [e]) (br_t rfl (br_t rfl (br_t rfl rfl)))))
  have N : ¬ r = a → wL_lawOf_227 (fun r _ => r = 1) mc ms (nI a) 1 (nI m) (nI r) (nI n) 0 (nI m) (nI n) 0 kc ks :=
    fun e => br_t rfl (br_t rfl (br_f (by rw [nI_eq (by omega) (by omega)]; exact e) (br_t rfl (br_t rfl (br_t rfl rfl)))))
  refine nm_r (e' := ql_o a b c) rfl (nm_e (pk_lt 0 m (fun z => Y (h1 z)) (fun z => br_c (fun g => N ((h0 (by omega)).mp g)) (fun g => Y ?_))))
  by_cases e : r = a
  · exact e
  · exact absurd ((h0 (by omega)).mpr e) g
theorem ql_161 {mc ms kc ks : Nat} {a b c u v m r n : Nat} {x11 x14 : Int32} (ha : a < 6) (hr : r < 6) (hu : u < 10) (hv : v < 10) (e11 : x11 = nI m) (e14 : x14 = 0) (hmu : u ≤ m) (hmv : v ≤ m) (hm : m = u ∨ m = v) (hn : (n = b ∧ v ≤ u) ∨ (n = c ∧ u < v))
    (h1 : 0 < m → r = a) (h0 : m = 0 → (ql_o a b c &&& (-(ql_o a b c)) ≤ ((1 : Int32) <<< (nI a &&& 31)) ↔ ¬ r = a)) :
    (nI u ≤ nI v → wL_lawOf_161 (fun r _ => r = 1) mc ms (nI a) (nI b) (nI c) (nI u) (nI v) 1 x11 (nI r) (nI n) x14 (nI v) kc ks) ∧ (¬ nI u ≤ nI v → wL_lawOf_161 (fun r _ => r = 1) mc ms (nI a) (nI b) (nI c) (nI u) (nI v) 1 x11 (nI r) (nI n) x14 (nI u) kc ks) := by
  have Z : wL_lawOf_177 (fun r _ => r = 1) mc ms (nI a) (nI b) (nI c) 1 (nI m) (nI r) (nI n) 0 (nI m) (nI n) kc ks := ql_177 ha hr (by omega) h1 h0
  have X : ∀ m', m' = m → wL_lawOf_161 (fun r _ => r = 1) mc ms (nI a) (nI b) (nI c) (nI u) (nI v) 1 x11 (nI r) (nI n) x14 (nI m') kc ks := by
    intro m' e
    rw [e, e11, e14]
    rcases hn with ⟨e, h⟩ | ⟨e, h⟩
    · rw [e] at Z ⊢
      exact pk_le v u (fun _ => Z) (fun z => absurd z (by omega))
    · rw [e] at Z ⊢
      exact pk_le v u (fun z => absurd z (by omega)) (fun _ => Z)
  exact pk_le u v (fun z => X v (by omega)) (fun z => X u (by omega))
theorem ql_r6 (x : Int32) : ∃ a, a < 6 ∧ (x &&& 65535) - (x &&& 65535) / 6 * 6 = nI a := by
  obtain ⟨j, hj, e⟩ := pk_andE x (m := 65535) 16 (by decide)
  refine ⟨j % 6, Nat.mod_lt _ (by decide), ?_⟩
  rw [e]
  exact pk_rem (a := j) (d := 6) (by omega) (by decide) (by decide)
theorem ql_r10 (x : Int32) : ∃ a, a < 10 ∧ (x &&& 65535) - (x &&& 65535) / 10 * 10 = nI a := by
  obtain ⟨j, hj, e⟩ := pk_andE x (m := 65535) 16 (by decide)
  refine ⟨j % 10, Nat.mod_lt _ (by decide), ?_⟩
  rw [e]
  exact pk_rem (a := j) (d := 10) (by omega) (by decide) (by decide)
theorem ql_nx (x : Int32) {a : Nat} (ha : a < 6) : ∃ b, (b = (a + 1) % 6 ∨ b = (a + 2) % 6) ∧ ((nI a + 1) + (x &&& 1)) - ((nI a + 1) + (x &&& 1)) / 6 * 6 = nI b := by
  obtain ⟨j, hj, e⟩ := pk_andE x (m := 1) 1 (by decide)
  refine ⟨(a + 1 + j) % 6, by omega, ?_⟩
  rw [e, nI_1, nI_add]
  exact pk_rem (a := a + 1 + j) (d := 6) (by omega) (by decide) (by decide)
theorem ql_lawOf (p0 p1 p2 p3 : Int32) : wpL_lawOf (fun r _ => r = 1) 22 352 () p0 p1 p2 p3 := by
  refine ⟨by omega, by omega, 5, 29, by omega, by omega, ql_init (fun s h hs hh => ?_)⟩
  obtain ⟨a, ha, ea⟩ := ql_r6 p0
  obtain ⟨b, hb1, eb⟩ := ql_nx p1 ha
  obtain ⟨c, hc1, ec⟩ := ql_nx (p1 >>> ((1 : Int32) &&& 31)) (show b < 6 by omega)
  obtain ⟨u, hu, eu⟩ := ql_r10 p2
  obtain ⟨v, hv, ev⟩ := ql_r10 p3
  have hb : b < 6 := by omega
  have hc : c < 6 := by omega
  have hab : a ≠ b := by omega
  have hac : a ≠ c := by omega
  have hbc : b ≠ c := by omega
  clear hb1 hc1
  refine ⟨by decide, nm_r ea ⟨by decide, nm_r eb ⟨by decide, nm_r ec ⟨by decide, nm_r eu ⟨by decide, nm_r ev ?_⟩⟩⟩⟩⟩
  have K0 : ql_K (fun _ => 0) (fun _ => 0) (fun _ => 0) (fun _ => false) (fun _ => 0) (fun _ => 0) s (fun _ => 0) :=
    fun j hj => ⟨⟨rfl, Nat.zero_lt_succ 9⟩, ⟨rfl, Nat.zero_lt_succ 9⟩, hs j hj, ⟨rfl, Nat.zero_lt_succ 9⟩⟩
  refine ql_setBase K0 hb rfl hu (fun m1 a1 a2 hm1 L1 K1 => ?_)
  refine ql_setBase K1 hc rfl hv (fun m2 b1 b2 hm2 L2 K2 => ?_)
  have e1 : m1 = u := (ql_L0 L1 (fun _ _ z => absurd z Bool.false_ne_true)).trans ql_us
  have e2 : m2 = v := (ql_L0 L2 (fun _ _ z => absurd z Bool.false_ne_true)).trans ql_us
  subst e1 e2
  refine ql_take0 K2 ha rfl (hh 1 (by omega)) ?_
  refine ql_take1 (t := 0) K2 hb ha hab rfl rfl (by omega) pk_us (fun m4 c2 c3 c4 hm4 L4 K4 => ?_)
  refine ql_take1 (t := 1) K4 hc ha hac (ql_un (Ne.symm hbc)) (ql_un hab) (by omega) pk_us (fun m5 d2 d3 d4 hm5 L5 K5 => ?_)
  rw [pk_us] at L5
  generalize hB : ql_up (ql_up (fun _ => 0) b m1) c m2 = B at *
  generalize hW : ql_up (ql_up (fun _ => false) b true) c true = W at *
  generalize hT : ql_up (ql_up (fun _ => 0) b 0) c 1 = T at *
  generalize hV : ql_up B a m4 = V at *
  generalize hU : ql_up V a m5 = U at *
  have Ba : B a = 0 := by rw [← hB, ql_un hac, ql_un hab]
  have Bb : B b = m1 := by rw [← hB, ql_un hbc, ql_us]
  have Bc : B c = m2 := by rw [← hB, ql_us]
  have Bo : ∀ t, t ≠ b → t ≠ c → B t = 0 := fun t h1 h2 => by rw [← hB, ql_un h2, ql_un h1]
  have Wb : W b = true := by rw [← hW, ql_un hbc, ql_us]
  have Wc : W c = true := by rw [← hW, ql_us]
  have Wo : ∀ t, t ≠ b → t ≠ c → W t = false := fun t h1 h2 => by rw [← hW, ql_un h2, ql_un h1]
  have Tb : T b = 0 := by rw [← hT, ql_un hbc, ql_us]
  have Tc : T c = 1 := by rw [← hT, ql_us]
  have Vb : V b = m1 := by rw [← hV, ql_un (Ne.symm hab), Bb]
  have Vc : V c = m2 := by rw [← hV, ql_un (Ne.symm hac), Bc]
  have Ua : U a = m5 := by rw [← hU, ql_us]
  have Ub : U b = m1 := by rw [← hU, ql_un (Ne.symm hab), Vb]
  have Uc : U c = m2 := by rw [← hU, ql_un (Ne.symm hac), Vc]
  have Uo : ∀ t, t ≠ a → t ≠ b → t ≠ c → U t = 0 := fun t h0 h1 h2 => by rw [← hU, ql_un h0, ← hV, ql_un h0, Bo t h1 h2]
  have Wi : ∀ t, W t = true → t = b ∨ t = c := by
    intro t ht
    by_cases h1 : t = b
    · exact Or.inl h1
    · by_cases h2 : t = c
      · exact Or.inr h2
      · exact absurd ((Wo t h1 h2).symm.trans ht) (by decide)
  have M1 : m1 ≤ m5 := by
    have := L5.2.2 b hb Wb rfl
    omega
  have M2 : m2 ≤ m5 := by
    have := L5.2.2 c hc Wc rfl
    omega
  have M3 : m5 = m1 ∨ m5 = m2 := by
    rcases L5.1 with e | ⟨s, _, hw, _, e⟩
    · omega
    · rcases Wi s hw with z | z
      · rw [z] at e
        omega
      · rw [z] at e
        omega
  refine ql_urg K5 ha (ql_running K5 (fun x hx => ?_))
  rcases hx with ⟨_, hx⟩ | ⟨r, ex, hr, hwr, hx⟩
  · exact absurd ((Wo a hab hac).symm.trans (hx a ha)) (by decide)
  have hrb : r ≠ b := fun z => absurd (hwr.symm.trans (z ▸ Wb)) (by decide)
  have hrc : r ≠ c := fun z => absurd (hwr.symm.trans (z ▸ Wc)) (by decide)
  rw [ex]
  refine ql_give K5 ha (Wo a hab hac) pk_us hb Wb (fun n m6 m7 f2 f3 f5 hn hwn hq L7 K7 => ?_)
  have hna : n ≠ a := fun z => absurd ((Wo a hab hac).symm.trans (z ▸ hwn)) (by decide)
  have E7 : m7 = 0 := (ql_L0 L7 (fun _ _ _ z => hna ((nI_eq (by omega) (by omega)).mp z))).trans Ba
  have hqb := hq b hb Wb
  have hqc := hq c hc Wc
  have hnn : (n = b ∧ m2 ≤ m1) ∨ (n = c ∧ m1 < m2) := by
    unfold ql_q at hqb hqc
    rcases Wi n hwn with z | z
    · rw [z, Ub, Uc, Tb, Tc] at hqc
      exact Or.inl ⟨z, by omega⟩
    · rw [z, Ub, Uc, Tb, Tc] at hqb
      exact Or.inr ⟨z, by omega⟩
  refine ql_urg K7 ha ?_
  refine ql_161 ha hr hu hv (congrArg nI Ua) (by rw [ql_us, E7]; rfl) M1 M2 M3 hnn (fun z => ?_) (fun z => ql_low ha hb hc hab hac hbc hr hrb hrc (fun t ht => ?_))
  · by_cases e : r = a
    · exact e
    · have := (hx a ha (Wo a hab hac)).1
      rw [Ua, Uo r e hrb hrc] at this
      omega
  · by_cases t1 : t = b
    · exact Or.inl t1
    · by_cases t2 : t = c
      · exact Or.inr t2
      · have q := (hx t (by omega) (Wo t t1 t2)).2 ht
        have : U r = 0 := by
          by_cases e : r = a
          · rw [e, Ua, z]
          · exact Uo r e hrb hrc
        omega
theorem ql_cell {post : Int32 → Prop} {L : Nat} {xs : Nat → Int32} {k : Nat} (hL : L ≤ 4) (hk : k < 4) (h : ∀ r, post r) : wpL_cellAt post L xs () (nI k) :=
  pk_le L k (fun _ => h _) (fun z => ⟨pk_in k L z, h _⟩)
theorem i_vc (xs : Nat → Int32) (L : Nat) (hL : L ≤ 4) : wpL_law (fun r => r = 1) L xs :=
  ql_cell (k := 0) hL (by omega) (fun p0 => ql_cell (k := 1) hL (by omega) (fun p1 => ql_cell (k := 2) hL (by omega) (fun p2 => ql_cell (k := 3) hL (by omega) (fun p3 => ⟨22, 352, by omega, by omega, ql_lawOf p0 p1 p2 p3⟩))))
end
