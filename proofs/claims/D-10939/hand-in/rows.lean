section
/-- the onward table: cell j, with c words (0 or 1), width W, the word's width X -/
def pb_T (c W X j : Nat) : Int32 := if j = c then 0 else if c = 1 ∧ X ≤ W ∧ j = 11 then 0 else 1000000
/-- the best cost from the beginning -/
def pb_B (W X : Nat) : Int32 := if X ≤ W then 0 else 1000000
/-- the picture: how many words, the width, the word's width -/
def pb_K (c W X : Nat) (a1 : Nat → Int32) : Prop := c ≤ 1 ∧ W ≤ 60 ∧ X ≤ 12 ∧ (c = 0 → X = 0) ∧ a1 0 = nI X
theorem pb_fill {f s : Nat → Int32} {i k : Nat} {x : Int32} (hk : k = i) (h : ∀ j, j < i → s j = f j) (hx : x = f i) : ∀ j, j < i + 1 → upd s k x j = f j := by
  intro j hj
  rw [hk]
  by_cases e : j = i
  · rw [e, pk_us, hx]
  · rw [pk_un e]
    exact h j (by omega)
theorem pb_ix (m q : Nat) : (nI (m + 1) - 1) * 11 + nI q = nI (m * 11 + q) := by
  rw [nI_pred]
  show nI m * nI 11 + nI q = _
  rw [pk_mul, nI_add]
theorem pb_iy (n q : Nat) : nI n * 11 + nI q = nI (n * 11 + q) := by
  show nI n * nI 11 + nI q = _
  rw [pk_mul, nI_add]
theorem pb_iz (n : Nat) : nI n * 11 = nI (n * 11) := by
  show nI n * nI 11 = _
  rw [pk_mul]
theorem pb_cl1 : (1 : Int32).toNatClampNeg = 1 := by decide
theorem pb_len {post : Int32 → Prop} {X : Nat} {w e c b : Int32} {a1 a2 a3 a4 a5 a6 : Nat → Int32} (h1 : a1 0 = nI X) (H : post (nI X)) : wpX_length post (w, e, c, b, a1, a2, a3, a4, a5, a6) 0 1 := by
  have e0 : ((1 : Int32) - 0 - 1) * 2 + a1 (0 : Int32).toNatClampNeg = nI X := by
    rw [sb_cl0, h1, show ((1 : Int32) - 0 - 1) * 2 = 0 by decide, Int32.zero_add]
  unfold wpX_length
  dsimp only
  exact nm_e ⟨0 + 1 + 1, br_f (by decide) ⟨pk_in 0 10 (by omega), nm_r e0 (nm_e (br_t (by decide) H))⟩⟩
theorem pb_line {post : Int32 → Prop} {W X : Nat} {e b : Int32} {a1 a2 a3 a4 a5 a6 : Nat → Int32} (hW : W ≤ 60) (hX : X ≤ 12) (h1 : a1 0 = nI X) (H0 : X ≤ W → post 0) (H1 : W < X → post 1000000) : wpX_lineCost post (nI W, e, 1, b, a1, a2, a3, a4, a5, a6) 0 1 := by
  have e1 : ((0 : Int32) + 1) - 1 = 0 := by decide
  unfold wpX_lineCost
  dsimp only
  refine pb_len h1 (nm_e ?_)
  rw [e1]
  by_cases h : X ≤ W
  · have hn : ¬ nI W - nI X < 0 := by
      rw [pk_sub h]
      exact nI_pos (by omega)
    exact br_f hn (br_t (by decide) (br_t rfl (br_f hn (H0 h))))
  · exact br_t (pk_sneg (by omega) (by omega)) (H1 (by omega))
theorem pb_least1 {post : Int32 → Prop} {W X m : Nat} {e b : Int32} {a1 a2 a3 a4 a5 a6 : Nat → Int32} (hW : W ≤ 60) (hX : X ≤ 12) (h1 : a1 0 = nI X) (hm : m ≤ 9) (h3 : ∀ j, j < (m + 1) * 11 → a3 j = pb_T 1 W X j) (H : post (pb_T 1 W X ((m + 1) * 11))) : wX_leastOnward_8 post (nI (m + 1)) 0 (nI W) e 1 b a1 a2 a3 a4 a5 a6 (0 + 1 + 1) 1000000 1 := by
  have ei : (nI (m + 1) - 1) * 11 + 1 = nI (m * 11 + 1) := pb_ix m 1
  have ea : a3 ((nI (m + 1) - 1) * 11 + 1).toNatClampNeg = pb_T 1 W X (m * 11 + 1) := by
    rw [ei, nI_clamp (by omega)]
    exact h3 _ (by omega)
  refine br_f (by decide) (pb_line hW hX h1 (fun hf => ⟨pk_in (m * 11 + 1) 121 (by omega) ei, nm_r ea ?_⟩) (fun hf => ⟨pk_in (m * 11 + 1) 121 (by omega) ei, nm_r ea ?_⟩))
  · refine br_f (by decide) ?_
    by_cases hm0 : m = 0
    · have hT : pb_T 1 W X (m * 11 + 1) = 0 := by
        unfold pb_T
        rw [if_pos (by omega)]
      have hT' : pb_T 1 W X ((m + 1) * 11) = 0 := by
        unfold pb_T
        rw [if_neg (by omega), if_pos ⟨rfl, hf, by omega⟩]
      rw [hT'] at H
      rw [hT]
      exact br_f (by decide) (br_f (by decide) (nm_r (e' := 0) (by decide) (nm_e (br_t (by decide) H))))
    · have hT : pb_T 1 W X (m * 11 + 1) = 1000000 := by
        unfold pb_T
        rw [if_neg (by omega), if_neg (by omega)]
      have hT' : pb_T 1 W X ((m + 1) * 11) = 1000000 := by
        unfold pb_T
        rw [if_neg (by omega), if_neg (by omega)]
      rw [hT'] at H
      rw [hT]
      exact br_t (by decide) (nm_e (br_t (by decide) H))
  · have hT' : pb_T 1 W X ((m + 1) * 11) = 1000000 := by
      unfold pb_T
      rw [if_neg (by omega), if_neg (by omega)]
    rw [hT'] at H
    exact br_t (by decide) (nm_e (br_t (by decide) H))
theorem pb_least {post : Int32 → Prop} {c W X m p : Nat} {e b : Int32} {a1 a2 a3 a4 a5 a6 : Nat → Int32} (K : pb_K c W X a1) (hm : m ≤ 9) (hp : p ≤ 10) (h3 : ∀ j, j < (m + 1) * 11 → a3 j = pb_T c W X j) (H : post (pb_T c W X ((m + 1) * 11 + p))) : wpX_leastOnward post (nI W, e, nI c, b, a1, a2, a3, a4, a5, a6) (nI (m + 1)) (nI p) := by
  obtain ⟨hc, hW, hX, hcX, h1⟩ := K
  unfold wpX_leastOnward
  dsimp only
  refine nm_r (nI_1 p) ?_
  by_cases hcp : c < p + 1
  · have hT : pb_T c W X ((m + 1) * 11 + p) = 1000000 := by
      unfold pb_T
      rw [if_neg (by omega), if_neg (by omega)]
    rw [hT] at H
    exact ⟨0 + 1, br_t (nI_lt hcp (by omega)) H⟩
  · have hc1 : c = 1 := by omega
    have hp0 : p = 0 := by omega
    subst hc1
    subst hp0
    exact ⟨0 + 1 + 1, pb_least1 hW hX h1 hm h3 H⟩
theorem pb_79 {post : St2 → Prop} {J : Int32 → (Nat → Int32) → (Nat → Int32) → (Nat → Int32) → (Nat → Int32) → (Nat → Int32) → (Nat → Int32) → Prop} {c W X m : Nat} {e b : Int32} {a1 a2 a3 a4 a5 a6 : Nat → Int32} (K : pb_K c W X a1) (hm : m ≤ 9) (h3 : ∀ j, j < (m + 1) * 11 → a3 j = pb_T c W X j) (H : ∀ s, (∀ j, j < (m + 1 + 1) * 11 → s j = pb_T c W X j) → J (nI (m + 1 + 1)) a1 a2 s a4 a5 a6) : ∃ fu, wX_learn_79 post J (nI (m + 1)) (nI W) e (nI c) b fu 0 a1 a2 a3 a4 a5 a6 :=
  pk_loop (fun n i s => wX_learn_79 post J (nI (m + 1)) (nI W) e (nI c) b n (nI i) a1 a2 s a4 a5 a6) (fun i s => ∀ j, j < (m + 1) * 11 + i → s j = pb_T c W X j) 11 0 a3 (by omega) h3
    (fun n s h => pk_lt 10 11 (fun _ => nm_r (nI_1 (m + 1)) (H s (fun j hj => h j (by omega)))) (fun z => absurd z (by omega)))
    (fun n i s hi h hw => pk_lt 10 i (fun z => absurd z (by omega)) (fun _ => pb_least K hm (by omega) (fun j hj => h j (by omega)) ⟨pk_in ((m + 1) * 11 + i) 121 (by omega) (pb_iy (m + 1) i), nm_e (nm_r (nI_1 i) (hw _ (pb_fill (i := (m + 1) * 11 + i) (by rw [pb_iy, nI_clamp (by omega)]) h rfl)))⟩))
theorem pb_best {post : St2 → Prop} {W X : Nat} {e b : Int32} {a1 a2 a3 a4 a5 a6 : Nat → Int32} (hW : W ≤ 60) (hX : X ≤ 12) (h1 : a1 0 = nI X) (h50 : a5 0 = 1000000) (h51 : a5 1 = 0) (H : ∀ s t, s 0 = pb_B W X → post (nI W, e, 1, b, a1, a2, a3, a4, s, t)) : wpX_findBest post (nI W, e, 1, b, a1, a2, a3, a4, a5, a6) 0 := by
  unfold wpX_findBest
  dsimp only
  refine nm_r (e' := 1) (by decide) ⟨0 + 1 + 1, br_f (by decide) (pb_line hW hX h1 (fun hf => ?_) (fun hf => ?_))⟩
  · have hB : pb_B W X = 0 := if_pos hf
    rw [hB] at H
    refine br_f (by decide) ⟨pk_in 1 11 (by omega), ?_⟩
    rw [pb_cl1, sb_cl0, h51, h50]
    refine br_f (by decide) ⟨pk_in 1 11 (by omega), nm_r (e' := 0) (by decide) ⟨pk_in 0 11 (by omega), br_f (by decide) ⟨pk_in 0 11 (by omega), nm_e ⟨pk_in 0 11 (by omega), nm_e ?_⟩⟩⟩⟩
    exact ⟨pk_in 0 11 (by omega), pk_in 0 11 (by omega), br_c (fun _ => ⟨pk_in 1 11 (by omega), pk_in 0 11 (by omega), nm_e (nm_e (br_t (by decide) (H _ _ pk_us)))⟩) (fun _ => ⟨pk_in 0 11 (by omega), nm_e (nm_e (br_t (by decide) (H _ _ pk_us)))⟩)⟩
  · have hB : pb_B W X = 1000000 := if_neg (by omega)
    rw [hB] at H
    exact br_t (by decide) (nm_e (br_t (by decide) (H _ _ h50)))
theorem pb_121 {post : St2 → Prop} {c W X : Nat} {e b : Int32} {a1 a2 a3 a4 a5 a6 : Nat → Int32} (K : pb_K c W X a1) (h50 : c = 1 → a5 0 = 1000000) (h51 : a5 c = 0) (H : ∀ s t, s 0 = pb_B W X → post (nI W, e, nI c, b, a1, a2, a3, a4, s, t)) : ∃ fu, wX_learn_121 post fu (nI c - 1) (nI W) e (nI c) b a1 a2 a3 a4 a5 a6 := by
  obtain ⟨hc, hW, hX, hcX, h1⟩ := K
  by_cases h0 : c = 0
  · subst h0
    refine ⟨0 + 1, br_t (by decide) (H a5 a6 ?_)⟩
    rw [h51, hcX rfl]
    exact (if_pos (by omega)).symm
  · have hc1 : c = 1 := by omega
    subst hc1
    rw [show nI 1 - 1 = 0 by decide]
    exact ⟨0 + 1 + 1, br_f (by decide) (pb_best hW hX h1 (h50 rfl) h51 (fun s t hs => nm_e (br_t (by decide) (H s t hs))))⟩
theorem pb_71 {post : St2 → Prop} {c W X : Nat} {e b : Int32} {a1 a2 a3 a4 a5 a6 : Nat → Int32} (K : pb_K c W X a1) (h50 : c = 1 → a5 0 = 1000000) (h51 : a5 c = 0) (h3 : ∀ j, j < 11 → a3 j = pb_T c W X j) (H : ∀ r s t, (∀ j, j < 121 → r j = pb_T c W X j) → s 0 = pb_B W X → post (nI W, e, nI c, b, a1, a2, r, a4, s, t)) : ∃ fu, wX_learn_71 post (nI W) e (nI c) b fu 1 a1 a2 a3 a4 a5 a6 := by
  refine pk_loop (fun n i s => wX_learn_71 post (nI W) e (nI c) b n (nI i) a1 a2 s a4 a5 a6) (fun i s => 1 ≤ i ∧ ∀ j, j < i * 11 → s j = pb_T c W X j) 11 1 a3 (by omega) ⟨by omega, fun j hj => h3 j (by omega)⟩ (fun n s h => ?_) (fun n i s hi h hw => ?_)
  · exact pk_lt 10 11 (fun _ => nm_e (pb_121 K h50 h51 (fun u t hu => H s u t (fun j hj => h.2 j (by omega)) hu))) (fun z => absurd z (by omega))
  · obtain ⟨h1, h2⟩ := h
    obtain ⟨m, rfl⟩ : ∃ m, i = m + 1 := ⟨i - 1, by omega⟩
    exact pk_lt 10 (m + 1) (fun z => absurd z (by omega)) (fun _ => pb_79 K (by omega) h2 (fun r hr => hw r ⟨by omega, hr⟩))
theorem pb_learn {post : St2 → Prop} {c W X : Nat} {e b : Int32} {a1 a2 a3 a4 a5 a6 : Nat → Int32} (K : pb_K c W X a1) (H : ∀ r s t, (∀ j, j < 121 → r j = pb_T c W X j) → s 0 = pb_B W X → post (nI W, e, nI c, b, a1, a2, r, a4, s, t)) : wpX_learn post (nI W, e, nI c, b, a1, a2, a3, a4, a5, a6) := by
  have hc : c ≤ 1 := K.1
  unfold wpX_learn
  dsimp only
  refine pk_loop (fun n i (s : (Nat → Int32) × (Nat → Int32) × (Nat → Int32)) => wX_learn_2 post (nI W) e (nI c) b n (nI i) a1 a2 s.1 a4 s.2.1 s.2.2) (fun i s => (∀ j, j < i → s.1 j = pb_T c W X j) ∧ ∀ j, j < i → s.2.1 j = 1000000) 11 0 (a3, a5, a6) (by omega) ⟨fun j hj => absurd hj (by omega), fun j hj => absurd hj (by omega)⟩ (fun n s h => ?_) (fun n i s hi h hw => ?_)
  · obtain ⟨h3, h5⟩ := h
    refine pk_lt 10 11 (fun _ => ⟨pk_in c 11 (by omega), nm_e ⟨pk_in c 11 (by omega), nm_e (pb_71 K (fun z => ?_) ?_ h3 H)⟩⟩) (fun z => absurd z (by omega))
    · rw [nI_clamp (by omega), pk_un (by omega)]
      exact h5 0 (by omega)
    · rw [nI_clamp (by omega), pk_us]
  · obtain ⟨h3, h5⟩ := h
    have hi' : (nI i).toNatClampNeg = i := nI_clamp (by omega)
    have st : ∀ x : Int32, x = pb_T c W X i → wX_learn_27 post (wX_learn_2 post (nI W) e (nI c) b n) (nI i) x (nI i) (nI W) e (nI c) b a1 a2 s.1 a4 s.2.1 s.2.2 := by
      intro x hx
      exact ⟨pk_in i 121 (by omega), nm_e ⟨pk_in i 11 (by omega), nm_e ⟨pk_in i 11 (by omega), nm_e (nm_r (nI_1 i) (hw (_, _, _) ⟨pb_fill hi' h3 hx, pb_fill (f := fun _ => 1000000) hi' h5 rfl⟩))⟩⟩⟩
    exact pk_lt 10 i (fun z => absurd z (by omega)) (fun _ => pk_eq i c (fun z => st 0 (if_pos z).symm) (fun z => st 1000000 (by unfold pb_T; rw [if_neg z, if_neg (by omega)])))
theorem pb_start {post : St2 → Prop} {c W X : Nat} {e b : Int32} {a1 a2 a3 a4 a5 a6 : Nat → Int32} (K : pb_K c W X a1) (H : ∀ r s t, (∀ j, j < 121 → r j = pb_T c W X j) → s 0 = pb_B W X → post (nI W, e, nI c, -1, a1, a2, r, a4, s, t)) : wpX_start post (nI W, e, nI c, b, a1, a2, a3, a4, a5, a6) := by
  unfold wpX_start
  dsimp only
  exact pb_learn K (fun r s t h3 h5 => H r s t h3 h5)
end
section
theorem pb_cost {post : Int32 → St2 → Prop} {c W X : Nat} {e b : Int32} {a1 a2 a3 a4 a5 a6 : Nat → Int32} (K : pb_K c W X a1) (H : ∀ r s t, post (if X ≤ W then 0 else -1000000) (nI W, e, nI c, -1, a1, a2, r, a4, s, t)) : wpX_cost post (nI W, e, nI c, b, a1, a2, a3, a4, a5, a6) := by
  unfold wpX_cost
  dsimp only
  refine pb_start K (fun r s t h3 h5 => ?_)
  have H' := H r s t
  dsimp only
  rw [h5]
  by_cases h : X ≤ W
  · rw [if_pos h] at H'
    rw [show pb_B W X = 0 from if_pos h]
    exact br_f (by decide) H'
  · rw [if_neg h] at H'
    rw [show pb_B W X = 1000000 from if_neg h]
    exact br_t (by decide) H'
/-- what fewestLines answers -/
def pb_N (c W X : Nat) : Int32 := if c = 0 then 0 else if X ≤ W then 1 else -1
theorem pb_fewL {post : Int32 → Prop} {w e c b : Int32} {a1 a2 a3 a4 a5 a6 : Nat → Int32} (E : Nat) (hE : E ≤ 11) (h3 : ∀ i, i < E → a3 (i * 11) = 1000000) (hx : ∀ n, wX_fewestLines_2 post w e c b a1 a2 a3 a4 a5 a6 (n + 1) (nI E)) : wpX_fewestLines post (w, e, c, b, a1, a2, a3, a4, a5, a6) := by
  unfold wpX_fewestLines
  dsimp only
  refine pk_loop (σ := Unit) (fun n i _ => wX_fewestLines_2 post w e c b a1 a2 a3 a4 a5 a6 n (nI i)) (fun _ _ => True) E 0 () (by omega) trivial (fun n _ _ => hx n) (fun n i _ hi _ hw => ?_)
  have hi' : (nI i * 11).toNatClampNeg = i * 11 := by rw [pb_iz, nI_clamp (by omega)]
  refine pk_lt 10 i (fun z => absurd z (by omega)) (fun _ => ⟨pk_in (i * 11) 121 (by omega) (pb_iz i), br_t ?_ (nm_r (nI_1 i) (hw () trivial))⟩)
  rw [hi', h3 i hi]
  decide
theorem pb_few {post : Int32 → Prop} {c W X : Nat} {e b : Int32} {a1 a2 a3 a4 a5 a6 : Nat → Int32} (K : pb_K c W X a1) (h3 : ∀ j, j < 121 → a3 j = pb_T c W X j) (h5 : a5 0 = pb_B W X) (H : post (pb_N c W X)) : wpX_fewestLines post (nI W, e, nI c, b, a1, a2, a3, a4, a5, a6) := by
  obtain ⟨hc, hW, hX, hcX, h1⟩ := K
  have fd : ∀ E : Nat, E ≤ 1 → post (nI E) → a3 (E * 11) = 0 → a5 0 = 0 → ∀ n, wX_fewestLines_2 post (nI W) e (nI c) b a1 a2 a3 a4 a5 a6 (n + 1) (nI E) := by
    intro E hE hp ha hb n
    have hi' : (nI E * 11).toNatClampNeg = E * 11 := by rw [pb_iz, nI_clamp (by omega)]
    refine pk_lt 10 E (fun z => absurd z (by omega)) (fun _ => ⟨pk_in (E * 11) 121 (by omega) (pb_iz E), br_f ?_ ⟨pk_in (E * 11) 121 (by omega) (pb_iz E), br_t ?_ hp⟩⟩)
    · rw [hi', ha]
      decide
    · rw [hi', ha, hb]
  by_cases h0 : c = 0
  · have hN : pb_N c W X = nI 0 := if_pos h0
    rw [hN] at H
    have hX0 := hcX h0
    refine pb_fewL 0 (by omega) (fun i hi => absurd hi (by omega)) (fd 0 (by omega) H ?_ ?_)
    · rw [h3 _ (by omega)]
      exact if_pos (by omega)
    · rw [h5]
      exact if_pos (by omega)
  · by_cases hf : X ≤ W
    · have hN : pb_N c W X = nI 1 := by
        unfold pb_N
        rw [if_neg h0, if_pos hf]
        rfl
      rw [hN] at H
      refine pb_fewL 1 (by omega) (fun i hi => ?_) (fd 1 (by omega) H ?_ ?_)
      · rw [h3 _ (by omega)]
        unfold pb_T
        rw [if_neg (by omega), if_neg (by omega)]
      · rw [h3 _ (by omega)]
        unfold pb_T
        rw [if_neg (by omega), if_pos (by omega)]
      · rw [h5]
        exact if_pos hf
    · have hN : pb_N c W X = -1 := by
        unfold pb_N
        rw [if_neg h0, if_neg hf]
      rw [hN] at H
      refine pb_fewL 11 (by omega) (fun i hi => ?_) (fun n => pk_lt 10 11 (fun _ => H) (fun z => absurd z (by omega)))
      rw [h3 _ (by omega)]
      unfold pb_T
      rw [if_neg (by omega), if_neg (by omega)]
theorem pb_lines {post : Int32 → St2 → Prop} {c W X : Nat} {e b : Int32} {a1 a2 a3 a4 a5 a6 : Nat → Int32} (K : pb_K c W X a1) (H : ∀ r s t, post (if c = 1 ∧ X ≤ W then 1 else 0) (nI W, e, nI c, -1, a1, a2, r, a4, s, t)) : wpX_lines post (nI W, e, nI c, b, a1, a2, a3, a4, a5, a6) := by
  have hc : c ≤ 1 := K.1
  unfold wpX_lines
  dsimp only
  refine pb_start K (fun r s t h3 h5 => pb_few K h3 h5 ?_)
  have H' := H r s t
  unfold pb_N
  by_cases h0 : c = 0
  · rw [if_neg (by omega)] at H'
    rw [if_pos h0]
    exact br_t (by decide) H'
  · by_cases hf : X ≤ W
    · rw [if_pos (by omega)] at H'
      rw [if_neg h0, if_pos hf]
      exact br_t (by decide) H'
    · rw [if_neg (by omega)] at H'
      rw [if_neg h0, if_neg hf]
      exact br_f (by decide) H'
theorem pb_first {post : Int32 → Prop} {W X : Nat} {e b : Int32} {a1 a2 a3 a4 a5 a6 : Nat → Int32} (hW : W ≤ 60) (hX : X ≤ 12) (hf : X ≤ W) (h1 : a1 0 = nI X) (h3 : ∀ j, j < 121 → a3 j = pb_T 1 W X j) (H : post 1) : wpX_firstEnd post (nI W, e, 1, b, a1, a2, a3, a4, a5, a6) 1 0 := by
  have c11 : ((1 : Int32) * 11 + 0).toNatClampNeg = 11 := by decide
  have c1 : (((1 : Int32) - 1) * 11 + 1).toNatClampNeg = 1 := by decide
  have e11 : a3 ((1 : Int32) * 11 + 0).toNatClampNeg = 0 := by
    rw [c11, h3 11 (by omega)]
    unfold pb_T
    rw [if_neg (by omega), if_pos ⟨rfl, hf, rfl⟩]
  have e1 : a3 (((1 : Int32) - 1) * 11 + 1).toNatClampNeg = 0 := by
    rw [c1, h3 1 (by omega)]
    exact if_pos rfl
  unfold wpX_firstEnd
  dsimp only
  exact ⟨vp_in_iff.mpr (by decide), nm_r e11 (nm_r (e' := 1) (by decide) ⟨0 + 1, br_f (by decide) (pb_line hW hX h1 (fun _ => ⟨vp_in_iff.mpr (by decide), nm_r e1 (br_f (by decide) (br_f (by decide) (br_t (by decide) H)))⟩) (fun z => absurd z (by omega)))⟩)⟩
theorem pb_eol {post : Int32 → St2 → Prop} {c W X : Nat} {e b : Int32} {a1 a2 a3 a4 a5 a6 : Nat → Int32} (K : pb_K c W X a1) (H : ∀ r s t, post (if c = 1 ∧ X ≤ W then 1 else -1) (nI W, e, nI c, -1, a1, a2, r, a4, s, t)) : wpX_endOfLine post (nI W, e, nI c, b, a1, a2, a3, a4, a5, a6) 0 := by
  unfold wpX_endOfLine
  dsimp only
  refine pb_start K (fun r s t h3 h5 => pb_few K h3 h5 (br_f (by decide) ?_))
  have H' := H r s t
  obtain ⟨hc, hW, hX, hcX, h1⟩ := K
  unfold pb_N
  by_cases h0 : c = 0
  · rw [if_neg (by omega)] at H'
    rw [if_pos h0]
    exact br_f (by decide) H'
  · have hc1 : c = 1 := by omega
    subst hc1
    by_cases hf : X ≤ W
    · rw [if_pos (by omega)] at H'
      rw [if_neg h0, if_pos hf]
      refine br_t (by decide) ⟨0 + 1 + 1, br_f (by decide) ?_⟩
      rw [show (1 : Int32) - 0 = 1 by decide]
      exact pb_first hW hX hf h1 h3 (nm_e (br_t (by decide) H'))
    · rw [if_neg (by omega)] at H'
      rw [if_neg h0, if_neg hf]
      exact br_f (by decide) H'
theorem pb_lenOf {post : Int32 → St2 → Prop} {c W X : Nat} {e b : Int32} {a1 a2 a3 a4 a5 a6 : Nat → Int32} (K : pb_K c W X a1) (H : ∀ r s t, post (if c = 1 ∧ X ≤ W then nI X else -1) (nI W, e, nI c, -1, a1, a2, r, a4, s, t)) : wpX_lengthOf post (nI W, e, nI c, b, a1, a2, a3, a4, a5, a6) 0 := by
  unfold wpX_lengthOf
  dsimp only
  refine pb_eol K (fun r s t => ?_)
  have H' := H r s t
  obtain ⟨hc, hW, hX, hcX, h1⟩ := K
  by_cases hf : c = 1 ∧ X ≤ W
  · rw [if_pos hf] at H'
    rw [if_pos hf]
    exact br_t (by decide) (br_t (by decide) (pb_len h1 H'))
  · rw [if_neg hf] at H'
    rw [if_neg hf]
    exact br_f (by decide) H'
theorem pb_lineOf {post : Int32 → St2 → Prop} {c W X : Nat} {e b i : Int32} {a1 a2 a3 a4 a5 a6 : Nat → Int32} (K : pb_K c W X a1) (H : ∀ b' r s t, post (if (c = 1 ∧ X ≤ W) ∧ i = 0 then 0 else -1) (nI W, e, nI c, b', a1, a2, r, a4, s, t)) : wpX_lineOf post (nI W, e, nI c, b, a1, a2, a3, a4, a5, a6) i := by
  unfold wpX_lineOf
  dsimp only
  refine br_c (fun hi => ?_) (fun hi => br_c (fun hc => pb_lines K (fun r s t => ?_)) (fun hc => ?_))
  · have H' := H b a3 a5 a6
    rw [if_neg (fun z => absurd hi (by rw [z.2]; decide))] at H'
    exact H'
  · obtain ⟨j, hj, rfl⟩ := nI_of hi
    have hK : c ≤ 1 := K.1
    have hj2 : j < c := (nI_ltI hj (by omega)).mp hc
    have hj0 : j = 0 := by omega
    have hc1 : c = 1 := by omega
    subst hj0
    subst hc1
    by_cases hf : X ≤ W
    · rw [if_pos ⟨rfl, hf⟩]
      refine ⟨0 + 1, br_f (by decide) (pb_eol K (fun r' s' t' => ?_))⟩
      have H' := H (-1) r' s' t'
      rw [if_pos ⟨⟨rfl, hf⟩, rfl⟩] at H'
      rw [if_pos ⟨rfl, hf⟩]
      exact br_f (by decide) H'
    · have H' := H (-1) r s t
      rw [if_neg (fun z => hf z.1.2)] at H'
      rw [if_neg (fun z => hf z.2)]
      exact ⟨0 + 1, br_t (by decide) H'⟩
  · have H' := H b a3 a5 a6
    rw [if_neg (fun z => hc (by rw [z.2, z.1.1]; decide))] at H'
    exact H'
theorem pb_with {post : Int32 → St2 → Prop} {c W X : Nat} {e b i : Int32} {a1 a2 a3 a4 a5 a6 : Nat → Int32} (K : pb_K c W X a1) (H : ∀ b' r s t, post (if (c = 0 ∧ i = 0) ∨ (c = 1 ∧ X ≤ W ∧ i = 1) then 0 else -1000000) (nI W, e, nI c, b', a1, a2, r, a4, s, t)) : wpX_costWith post (nI W, e, nI c, b, a1, a2, a3, a4, a5, a6) i := by
  have hK : c ≤ 1 := K.1
  unfold wpX_costWith
  dsimp only
  refine br_c (fun hi => ?_) (fun hi => br_c (fun hc => pb_start K (fun r s t h3 h5 => ?_)) (fun hc => ?_))
  · have H' := H b a3 a5 a6
    have hn : ¬ ((c = 0 ∧ i = 0) ∨ (c = 1 ∧ X ≤ W ∧ i = 1)) := by
      rintro (⟨_, z⟩ | ⟨_, _, z⟩)
      · rw [z] at hi
        exact absurd hi (by decide)
      · rw [z] at hi
        exact absurd hi (by decide)
    rw [if_neg hn] at H'
    exact H'
  · obtain ⟨k, hk, rfl⟩ := nI_of2 (n := 10) (by decide) hi hc
    have H' := H (-1) r s t
    have hi' : (nI k * 11).toNatClampNeg = k * 11 := by rw [pb_iz, nI_clamp (by omega)]
    refine ⟨pk_in (k * 11) 121 (by omega) (pb_iz k), ?_⟩
    dsimp only
    rw [hi', h3 (k * 11) (by omega)]
    have q0 : nI k = 0 ↔ k = 0 := nI_eq (b := 0) (by omega) (by omega)
    have q1 : nI k = 1 ↔ k = 1 := nI_eq (b := 1) (by omega) (by omega)
    by_cases hf : (c = 0 ∧ nI k = 0) ∨ (c = 1 ∧ X ≤ W ∧ nI k = 1)
    · rw [if_pos hf] at H'
      rw [q0, q1] at hf
      have hT : pb_T c W X (k * 11) = 0 := by
        unfold pb_T
        by_cases g : k * 11 = c
        · rw [if_pos g]
        · rw [if_neg g, if_pos (by omega)]
      rw [hT]
      exact br_f (by decide) ⟨pk_in (k * 11) 121 (by omega) (pb_iz k), H'⟩
    · rw [if_neg hf] at H'
      rw [q0, q1] at hf
      have hT : pb_T c W X (k * 11) = 1000000 := by
        unfold pb_T
        rw [if_neg (by omega), if_neg (by omega)]
      rw [hT]
      exact br_t (by decide) H'
  · have H' := H b a3 a5 a6
    have hn : ¬ ((c = 0 ∧ i = 0) ∨ (c = 1 ∧ X ≤ W ∧ i = 1)) := by
      rintro (⟨_, z⟩ | ⟨_, _, z⟩)
      · exact hc (by rw [z]; decide)
      · exact hc (by rw [z]; decide)
    rw [if_neg hn] at H'
    exact H'
theorem pb_setW {post : Int32 → St2 → Prop} {w e c b i : Int32} {a1 a2 a3 a4 a5 a6 : Nat → Int32} (H : ∀ w', post (if i < 5 then 0 else if 60 < i then 0 else 1) (w', e, c, b, a1, a2, a3, a4, a5, a6)) : wpX_setWidth post (w, e, c, b, a1, a2, a3, a4, a5, a6) i := by
  unfold wpX_setWidth
  dsimp only
  refine br_c (fun h => ?_) (fun h => br_c (fun g => ?_) (fun g => ?_))
  · have H' := H w
    rw [if_pos h] at H'
    exact H'
  · have H' := H i
    rw [if_neg h, if_neg (Int32.not_lt.mpr g)] at H'
    exact H'
  · have H' := H w
    rw [if_neg h, if_pos (Int32.not_le.mp g)] at H'
    exact H'
end
section
theorem pb_byte : ∀ X, X < 13 → (nI X).toInt8.toInt32 = nI X := by decide +kernel
/-- the word is good -/
def pb_G (x y : Int32) : Prop := ¬ x < 1 ∧ ¬ 12 < x ∧ ¬ y < (-40) ∧ ¬ 40 < y
theorem pb_ok {post : Int32 → Prop} {x y : Int32} (H0 : ¬ pb_G x y → post 0) (H1 : pb_G x y → post 1) : wpX_wordOk post () x y := by
  unfold wpX_wordOk
  exact br_c (fun h => H0 (fun g => g.1 h)) (fun h1 => br_c (fun h => H0 (fun g => g.2.1 h)) (fun h2 => br_c (fun h => H0 (fun g => g.2.2.1 h)) (fun h3 => br_c (fun h => H0 (fun g => g.2.2.2 h)) (fun h4 => H1 ⟨h1, h2, h3, h4⟩))))
theorem pb_word {post : Int32 → St2 → Prop} {x y w e b : Int32} {a2 a3 a4 a5 a6 : Nat → Int32} (H0 : ¬ pb_G x y → post (-1) (w, e, nI 0, b, fun _ => 0, a2, a3, a4, a5, a6)) (H1 : pb_G x y → ∀ X a1 a2', X ≤ 12 → x = nI X → a1 0 = nI X → post 0 (w, e, nI 1, b, a1, a2', a3, a4, a5, a6)) : wpX_word post (w, e, 0, b, fun _ => 0, a2, a3, a4, a5, a6) x y := by
  unfold wpX_word
  dsimp only
  refine pb_ok (fun g => br_t rfl (H0 g)) (fun g => br_f (by decide) (br_t (by decide) ⟨pk_in 0 10 (by omega), nm_e ⟨pk_in 0 10 (by omega), nm_e (nm_r (e' := nI 1) (by decide) ?_)⟩⟩))
  have hx0 : ¬ x < 0 := fun z => g.1 (Int32.lt_trans z (by decide))
  obtain ⟨X, hX, rfl⟩ := nI_of2 (n := 12) (M := 12) (by decide) hx0 (Int32.not_lt.mp g.2.1)
  rw [show nI 1 - 1 = 0 by decide]
  refine H1 g X _ _ hX rfl ?_
  rw [sb_cl0, pk_us]
  exact pb_byte X (by omega)
theorem pb_init {post : St2 → Prop} {mc ms : Nat} {x y : Int32} (hmc : 6 ≤ mc) (hms : 174 ≤ ms) (H : ∀ W e, W ≤ 60 → 5 ≤ W → (5 ≤ x → x ≤ 60 → x = nI W) → (5 ≤ x → ¬ x ≤ 60 → W = 60) → (¬ 5 ≤ x → W = 5) → post (nI W, e, 0, 0, fun _ => 0, fun _ => 0, fun _ => 0, fun _ => 0, fun _ => 0, fun _ => 0)) : wpX_init post mc ms (0, 0, 0, 0) x y := by
  unfold wpX_init
  dsimp only
  have st : ∀ (z : Int32) (W : Nat), z = nI W → W ≤ 60 → 5 ≤ W → (5 ≤ x → x ≤ 60 → x = nI W) → (5 ≤ x → ¬ x ≤ 60 → W = 60) → (¬ 5 ≤ x → W = 5) → wX_init_74 post mc ms y z 6 174 0 0 0 0 (fun _ => 0) (fun _ => 0) (fun _ => 0) (fun _ => 0) (fun _ => 0) (fun _ => 0) := by
    intro z W hz hW h5 k1 k2 k3
    rw [hz]
    exact br_c (fun _ => br_c (fun _ => H W y hW h5 k1 k2 k3) (fun _ => H W 100 hW h5 k1 k2 k3)) (fun _ => H W 0 hW h5 k1 k2 k3)
  refine ⟨by omega, by omega, by omega, by omega, by omega, by omega, by omega, by omega, by omega, by omega, by omega, by omega, br_c (fun h => br_c (fun g => ?_) (fun g => ?_)) (fun h => ?_)⟩
  · obtain ⟨W, hW, rfl⟩ := nI_of2 (n := 60) (M := 60) (by decide) (fun z => absurd (Int32.le_trans h (Int32.le_of_lt z)) (by decide)) g
    have h5 : 5 ≤ W := (nI_leI (a := 5) (by omega) (by omega)).mp h
    exact st _ W rfl hW h5 (fun _ _ => rfl) (fun _ z => absurd g z) (fun z => absurd h z)
  · exact st 60 60 rfl (by omega) (by omega) (fun _ z => absurd z g) (fun _ _ => rfl) (fun z => absurd h z)
  · exact st 5 5 rfl (by omega) (by omega) (fun z => absurd z h) (fun z => absurd z h) (fun _ => rfl)
theorem pb_250 {post : Int32 → St0 → Prop} {mc ms kc ks : Nat} {i z : Int32} (H : post 1 ()) : wL_lawOf_250 post mc ms i (if i < 5 then 0 else if 60 < i then 0 else 1) z z kc ks := by
  unfold wL_lawOf_250
  refine br_t rfl (br_c (fun h => ?_) (fun h => br_c (fun g => ?_) (fun g => ?_)))
  · rw [if_pos h]
    exact br_t rfl H
  · rw [if_neg h, if_pos g]
    exact br_t rfl H
  · rw [if_neg h, if_neg g]
    exact br_t rfl H
/-- the law's checks, the word bad -/
theorem pb_bad {post : Int32 → St0 → Prop} {mc ms kc ks : Nat} {x y i z v9 : Int32} (hg : ¬ pb_G x y) (h0 : i = 0 → v9 = 0) (h1 : ¬ i = 0 → v9 = -1000000) (H : post 1 ()) : wL_lawOf_83 post mc ms x y i (-1) 0 (-1) v9 (-1) (if i < 5 then 0 else if 60 < i then 0 else 1) z kc ks := by
  have st : wL_lawOf_112 post mc ms x i (-1) 0 (-1) v9 (-1) (if i < 5 then 0 else if 60 < i then 0 else 1) z kc ks :=
    br_t rfl (br_t rfl (br_t rfl (br_t rfl (br_t rfl (br_t rfl (br_t rfl (br_t rfl (br_c (fun h => br_t (h0 h) (br_t rfl (pb_250 H))) (fun h => br_t (h1 h) (br_t rfl (pb_250 H)))))))))))
  unfold wL_lawOf_83
  exact br_c (fun _ => st) (fun h1 => br_c (fun _ => st) (fun h2 => br_c (fun _ => st) (fun h3 => br_c (fun _ => st) (fun h4 => absurd ⟨h1, h2, h3, h4⟩ hg))))
/-- the word good, and it fits -/
theorem pb_fit {post : Int32 → St0 → Prop} {mc ms kc ks : Nat} {x y i z v8 v9 : Int32} (hg : pb_G x y) (hf : ¬ z < x) (k0 : i = 0 → v8 = 0) (k1 : ¬ i = 0 → v8 = -1) (h0 : i = 1 → v9 = 0) (h1 : ¬ i = 1 → v9 = -1000000) (H : post 1 ()) : wL_lawOf_83 post mc ms x y i 0 0 v8 v9 x (if i < 5 then 0 else if 60 < i then 0 else 1) z kc ks := by
  have s2 : ∀ q : Int32, v8 = q → wL_lawOf_194 post mc ms x i v9 x (if i < 5 then 0 else if 60 < i then 0 else 1) 1 1 q v8 kc ks := fun q hq =>
    br_t hq (br_f (by decide) (br_f (by decide) (br_c (fun h => br_t (h0 h) (br_f (by decide) (pb_250 H))) (fun h => br_t (h1 h) (br_f (by decide) (pb_250 H))))))
  have s1 : wL_lawOf_113 post mc ms x i 0 0 v8 v9 x (if i < 5 then 0 else if 60 < i then 0 else 1) z 1 kc ks :=
    br_f (by decide) (br_f hf (br_f (by decide) (br_f (by decide) (br_f (by decide) (br_t rfl (br_t rfl (br_f (by decide) (br_c (fun h => s2 0 (k0 h)) (fun h => s2 (-1) (k1 h))))))))))
  unfold wL_lawOf_83
  exact br_f hg.1 (br_f hg.2.1 (br_f hg.2.2.1 (br_f hg.2.2.2 s1)))
/-- the word good, and it doesn't fit -/
theorem pb_far {post : Int32 → St0 → Prop} {mc ms kc ks : Nat} {x y i z : Int32} (hg : pb_G x y) (hf : z < x) (H : post 1 ()) : wL_lawOf_83 post mc ms x y i 0 (-1000000) (-1) (-1000000) (-1) (if i < 5 then 0 else if 60 < i then 0 else 1) z kc ks := by
  have s2 : wL_lawOf_194 post mc ms x i (-1000000) (-1) (if i < 5 then 0 else if 60 < i then 0 else 1) 1 0 (-1) (-1) kc ks :=
    br_t rfl (br_f (by decide) (br_t rfl (br_t rfl (br_t rfl (pb_250 H)))))
  have s1 : wL_lawOf_113 post mc ms x i 0 (-1000000) (-1) (-1000000) (-1) (if i < 5 then 0 else if 60 < i then 0 else 1) z 1 kc ks :=
    br_f (by decide) (br_t hf (br_f (by decide) (br_t rfl (br_f (by decide) (br_t rfl (br_t rfl (br_t rfl s2)))))))
  unfold wL_lawOf_83
  exact br_f hg.1 (br_f hg.2.1 (br_f hg.2.2.1 (br_f hg.2.2.2 s1)))
theorem pb_law {post : Int32 → St0 → Prop} {p0 p1 p2 p3 p4 : Int32} (H : post 1 ()) : wpL_lawOf post 7 184 () p0 p1 p2 p3 p4 := by
  unfold wpL_lawOf
  refine ⟨by omega, by omega, 6, 174, by omega, by omega, pb_init (by omega) (by omega) (fun W e hW h5 k1 k2 k3 => ?_)⟩
  refine pb_word (fun g => ?_) (fun g X a1 a2' hX hx h1 => ?_)
  · have K : pb_K 0 W 0 (fun _ => 0) := ⟨by omega, hW, by omega, fun _ => rfl, rfl⟩
    refine pb_cost K (fun r s t => pb_lineOf K (fun b' r' s' t' => pb_with K (fun b2 r2 s2 t2 => pb_lenOf K (fun r3 s3 t3 => pb_setW (fun w' => ?_)))))
    rw [if_pos (show 0 ≤ W by omega), if_neg (show ¬ ((0 = 1 ∧ 0 ≤ W) ∧ p4 = 0) from fun z => absurd z.1.1 (by omega)), if_neg (show ¬ (0 = 1 ∧ 0 ≤ W) from fun z => absurd z.1 (by omega))]
    have main : ∀ z : Int32, wL_lawOf_83 post 7 184 p2 p3 p4 (-1) 0 (-1) (if (0 = 0 ∧ p4 = 0) ∨ (0 = 1 ∧ 0 ≤ W ∧ p4 = 1) then 0 else -1000000) (-1) (if p4 < 5 then 0 else if 60 < p4 then 0 else 1) z (1 + 6) (10 + 174) := fun z =>
      pb_bad g (fun h => if_pos (Or.inl ⟨rfl, h⟩)) (fun h => if_neg (fun q => q.elim (fun a => h a.2) (fun a => absurd a.1 (by omega)))) H
    exact br_c (fun _ => br_c (fun _ => main _) (fun _ => main _)) (fun _ => main _)
  · have K : pb_K 1 W X a1 := ⟨by omega, hW, hX, fun z => absurd z (by omega), h1⟩
    refine pb_cost K (fun r s t => pb_lineOf K (fun b' r' s' t' => pb_with K (fun b2 r2 s2 t2 => pb_lenOf K (fun r3 s3 t3 => pb_setW (fun w' => ?_)))))
    by_cases hf : X ≤ W
    · rw [if_pos hf, if_pos (show 1 = 1 ∧ X ≤ W from ⟨rfl, hf⟩), ← hx]
      have main : ∀ z : Int32, z = nI W → wL_lawOf_83 post 7 184 p2 p3 p4 0 0 (if (1 = 1 ∧ X ≤ W) ∧ p4 = 0 then 0 else -1) (if (1 = 0 ∧ p4 = 0) ∨ (1 = 1 ∧ X ≤ W ∧ p4 = 1) then 0 else -1000000) p2 (if p4 < 5 then 0 else if 60 < p4 then 0 else 1) z (1 + 6) (10 + 174) := fun z hz =>
        pb_fit g (by rw [hz, hx]; exact nI_nlt hf (by omega)) (fun h => if_pos ⟨⟨rfl, hf⟩, h⟩) (fun h => if_neg (fun q => h q.2)) (fun h => if_pos (Or.inr ⟨rfl, hf, h⟩)) (fun h => if_neg (fun q => q.elim (fun a => absurd a.1 (by omega)) (fun a => h a.2.2))) H
      exact br_c (fun h => br_c (fun q => main p0 (k1 h q)) (fun q => main 60 (by rw [k2 h q]; rfl))) (fun h => main 5 (by rw [k3 h]; rfl))
    · rw [if_neg hf, if_neg (show ¬ ((1 = 1 ∧ X ≤ W) ∧ p4 = 0) from fun z => hf z.1.2), if_neg (show ¬ ((1 = 0 ∧ p4 = 0) ∨ (1 = 1 ∧ X ≤ W ∧ p4 = 1)) from fun q => q.elim (fun a => absurd a.1 (by omega)) (fun a => hf a.2.1)), if_neg (show ¬ (1 = 1 ∧ X ≤ W) from fun z => hf z.2)]
      have main : ∀ z : Int32, z = nI W → wL_lawOf_83 post 7 184 p2 p3 p4 0 (-1000000) (-1) (-1000000) (-1) (if p4 < 5 then 0 else if 60 < p4 then 0 else 1) z (1 + 6) (10 + 174) := fun z hz =>
        pb_far g (by rw [hz, hx]; exact nI_lt (by omega) (by omega)) H
      exact br_c (fun h => br_c (fun q => main p0 (k1 h q)) (fun q => main 60 (by rw [k2 h q]; rfl))) (fun h => main 5 (by rw [k3 h]; rfl))
theorem pb_cell {post : Int32 → Prop} {L : Nat} {xs : Nat → Int32} {p : Nat} (hL : L ≤ 5) (hp : p ≤ 4) (H : ∀ v, post v) : wpL_cellAt post L xs () (nI p) := by
  unfold wpL_cellAt
  exact pk_le L p (fun _ => H 0) (fun z => ⟨pk_in p L z, H _⟩)
theorem i_vc (xs : Nat → Int32) (L : Nat) (hL : L ≤ 5) : wpL_law (fun r => r = 1) L xs := by
  unfold wpL_law
  exact pb_cell (p := 0) hL (by omega) (fun r0 => pb_cell (p := 1) hL (by omega) (fun r1 => pb_cell (p := 2) hL (by omega) (fun r2 => pb_cell (p := 3) hL (by omega) (fun r3 => pb_cell (p := 4) hL (by omega) (fun r4 => ⟨7, 184, by omega, by omega, pb_law rfl⟩)))))
end
