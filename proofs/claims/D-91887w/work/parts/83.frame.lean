/-! frames: what another store still holds -/
set_option maxRecDepth 100000
def agc (σ σ' : St) (c : Nat) : Prop := (∀ k, gI σ' c k = gI σ c k) ∧ (∀ k, gA σ' c k = gA σ c k) ∧ ∀ k, gR σ' c k = gR σ c k
theorem agc.rf {σ : St} {c : Nat} : agc σ σ c := ⟨fun _ => rfl, fun _ => rfl, fun _ => rfl⟩
theorem agc.tr {σ σ' σ'' : St} {c : Nat} (h1 : agc σ σ' c) (h2 : agc σ' σ'' c) : agc σ σ'' c := ⟨fun k => (h2.1 k).trans (h1.1 k), fun k => (h2.2.1 k).trans (h1.2.1 k), fun k => (h2.2.2 k).trans (h1.2.2 k)⟩
theorem agc.pI {σ : St} {c d k : Nat} {x : Int32} (h : c ≠ d) : agc σ (pI σ d k x) c := ⟨fun i => by rw [gI_pI, if_neg (fun q => h q.1)], fun _ => rfl, fun _ => rfl⟩
theorem agc.pL {σ : St} {c d k : Nat} {x : Int64} : agc σ (pL σ d k x) c := ⟨fun _ => rfl, fun _ => rfl, fun _ => rfl⟩
theorem agc.pA {σ : St} {c d k : Nat} {x : Int32} (h : c ≠ d) : agc σ (pA σ d k x) c := ⟨fun _ => rfl, fun i => by rw [gA_pA, if_neg (fun q => h q.1)], fun _ => rfl⟩
theorem agc.pR {σ : St} {c d k : Nat} {x : Option Nat} (h : c ≠ d) : agc σ (pR σ d k x) c := ⟨fun _ => rfl, fun _ => rfl, fun i => by rw [gR_pR, if_neg (fun q => h q.1)]⟩
theorem agc.aS {σ : St} {c n : Nat} (h : c ≠ n) : agc σ (aS σ n) c := ⟨fun i => by rw [gI_aS, if_neg h], fun i => by rw [gA_aS, if_neg h], fun i => by rw [gR_aS, if_neg h]⟩
section FR
variable {F : Nat → Prop} {σ σ' : St} {sh sh' : Nat → Sh}
theorem SumC.fr (hσ : ∀ c, F c → agc σ σ' c) (hs : ∀ c, F c → sh' c = sh c) : ∀ (n a : Nat) (c : List (Int32 × Int32)), SumC F σ sh n a c → SumC F σ' sh' n a c := by
  intro n
  induction n with
  | zero => intro a c h; exact h.elim
  | succ n ih =>
    intro a c h
    obtain ⟨hF, h⟩ := h
    have ha := hσ a hF
    refine ⟨hF, ?_⟩
    rw [hs a hF, ha.1]
    rcases h with h | h | ⟨b, d, h1, h2, h3⟩ | ⟨h0, b1, b2, d1, d2, h1, h2, h3, h4, h5⟩
    · exact Or.inl h
    · exact Or.inr (Or.inl h)
    · exact Or.inr (Or.inr (Or.inl ⟨b, d, by rw [ha.2.2]; exact h1, ih _ _ h2, h3⟩))
    · exact Or.inr (Or.inr (Or.inr ⟨h0, b1, b2, d1, d2, by rw [ha.2.2]; exact h1, by rw [ha.2.2]; exact h2, ih _ _ h3, ih _ _ h4, h5⟩))
theorem LstC.fr {l e n : Nat} (hl : agc σ σ' l) (h1 : sh' l = sh l) (h2 : sh' e = sh e) (h : LstC σ sh l e n) : LstC σ' sh' l e n := by
  obtain ⟨a1, a2, a3, a4⟩ := h
  refine ⟨h1.trans a1, (hl.2.2 1).trans a2, ?_, (hl.1 2).trans a4.1, a4.2⟩
  rw [h2]
  exact a3
theorem TestC.fr (hσ : ∀ c, F c → agc σ σ' c) (hs : ∀ c, F c → sh' c = sh c) : ∀ (n a : Nat) (c : List (Int32 × Int32)), TestC F σ sh n a c → TestC F σ' sh' n a c := by
  intro n
  induction n with
  | zero => intro a c h; exact h.elim
  | succ n ih =>
    intro a c h
    obtain ⟨m, d, hm, hF, h⟩ := h
    · have ha := hσ a hF
      refine ⟨m, d, hm, hF, ?_⟩
      rw [hs a hF, ha.1]
      rcases h with ⟨h0, b1, b2, d1, d2, h1, h2, h3, h4, h5⟩ | ⟨h0, b, d, h1, h2, h3⟩ | ⟨h0, l, e, ds, h1, h2, h3, h4, h5, h6, h7⟩
      · exact Or.inl ⟨h0, b1, b2, d1, d2, by rw [ha.2.2]; exact h1, by rw [ha.2.2]; exact h2, SumC.fr hσ hs _ _ _ h3, SumC.fr hσ hs _ _ _ h4, h5⟩
      · exact Or.inr (Or.inl ⟨h0, b, d, by rw [ha.2.2]; exact h1, ih _ _ h2, h3⟩)
      · refine Or.inr (Or.inr ⟨h0, l, e, ds, by rw [ha.2.2]; exact h1, h2, h3, h4.fr (hσ l h2) (hs l h2) (hs e h3), h5, fun i d hi => ?_, h7⟩)
        obtain ⟨b, q1, q2⟩ := h6 i d hi
        exact ⟨b, by rw [(hσ e h3).2.2]; exact q1, ih _ _ q2⟩
theorem codeAt.fr {f f' : Nat → Int32} (hf : ∀ i, i < 1000 → f' i = f i) {lo hi : Int32} {c : List (Int32 × Int32)} (h : codeAt f lo hi c) : codeAt f' lo hi c := by
  obtain ⟨k, h1, h2, h3, h4⟩ := h
  refine ⟨k, h1, h2, h3, fun i q hq => ?_⟩
  have hi := (List.getElem?_eq_some_iff.mp hq).1
  rw [hf _ (by omega), hf _ (by omega)]
  exact h4 i q hq
theorem StepC.fr (hσ : ∀ c, F c → agc σ σ' c) (hs : ∀ c, F c → sh' c = sh c) {f f' : Nat → Int32} (hf : ∀ i, i < 1000 → f' i = f i) {k a : Nat} (hk : k < 16) (h : StepC F σ sh f k a) : StepC F σ' sh' f' k a := by
  obtain ⟨hF, s, h1, h2, h3, ⟨b, h4, h5⟩, h6, h7⟩ := h
  have ha := hσ a hF
  refine ⟨hF, s, h1, (hs a hF).trans h2, ?_, ⟨b, (ha.2.2 0).trans h4, ?_⟩, ?_, ?_⟩
  · rw [hf _ (by omega)]; exact h3
  · rw [hf (11 + 10 * k) (by omega), hf (12 + 10 * k) (by omega), hf (17 + 10 * k) (by omega)]
    rcases h5 with ⟨q0, c, q1, q2⟩ | ⟨q0, q1, q2, q3, q4⟩
    · exact Or.inl ⟨q0, c, SumC.fr hσ hs _ _ _ q1, q2.fr hf⟩
    · exact Or.inr ⟨q0, q1, (hs b q1).trans q2, q3.fr hf, ((hσ b q1).1 0).trans q4.1, q4.2⟩
  · rw [hf (12 + 10 * k) (by omega), hf (13 + 10 * k) (by omega)]
    rcases h6 with ⟨q0, b, c, q1, q2, q3⟩ | ⟨q0, q1⟩
    · exact Or.inl ⟨q0, b, c, (ha.2.2 2).trans q1, SumC.fr hσ hs _ _ _ q2, q3.fr hf⟩
    · exact Or.inr ⟨q0, q1.fr hf⟩
  · rw [hf (13 + 10 * k) (by omega), hf (14 + 10 * k) (by omega)]
    rcases h7 with ⟨q0, q1⟩ | ⟨t, c, q0, q1, q2, q3⟩
    · exact Or.inl ⟨(ha.2.2 1).trans q0, q1.fr hf⟩
    · exact Or.inr ⟨t, c, (ha.2.2 1).trans q0, TestC.fr hσ hs _ _ _ q1, q2, q3.fr hf⟩
theorem RcpC.fr (hσ : ∀ c, F c → agc σ σ' c) (hs : ∀ c, F c → sh' c = sh c) {f f' : Nat → Int32} (hf : ∀ i, i < 1000 → f' i = f i) {l : Nat} (h : RcpC F σ sh f l) : RcpC F σ' sh' f' l := by
  obtain ⟨e, n, h1, h2, h3, h4, h5, h6, h7⟩ := h
  refine ⟨e, n, h1, h2, h3, h4, ?_, h6.fr (hσ l h1) (hs l h1) (hs e h2), fun k hk => ?_⟩
  · rw [hf 0 (by omega)]; exact h5
  · obtain ⟨a, q1, q2⟩ := h7 k hk
    exact ⟨a, ((hσ e h2).2.2 k).trans q1, q2.fr hσ hs hf (by omega)⟩
theorem PieC.fr (hσ : ∀ c, F c → agc σ σ' c) (hs : ∀ c, F c → sh' c = sh c) {f f' : Nat → Int32} {i a : Nat} (hf : f' (40 + 2 * i) = f (40 + 2 * i) ∧ f' (41 + 2 * i) = f (41 + 2 * i)) (h : PieC F σ sh f i a) : PieC F σ' sh' f' i a := by
  obtain ⟨h1, h2, h3, h4, h5⟩ := h
  have ha := hσ a h1
  unfold PieC
  rw [hf.1, hf.2, hs a h1, ha.1, ha.1]
  exact ⟨h1, h2, h3, h4, h5⟩
/-- the frozen set may grow -/
theorem SumC.mono {G : Nat → Prop} (hG : ∀ c, F c → G c) : ∀ (n a : Nat) (c : List (Int32 × Int32)), SumC F σ sh n a c → SumC G σ sh n a c := by
  intro n
  induction n with
  | zero => intro a c h; exact h.elim
  | succ n ih =>
    intro a c h
    obtain ⟨hF, h⟩ := h
    refine ⟨hG _ hF, ?_⟩
    rcases h with h | h | ⟨b, d, h1, h2, h3⟩ | ⟨h0, b1, b2, d1, d2, h1, h2, h3, h4, h5⟩
    · exact Or.inl h
    · exact Or.inr (Or.inl h)
    · exact Or.inr (Or.inr (Or.inl ⟨b, d, h1, ih _ _ h2, h3⟩))
    · exact Or.inr (Or.inr (Or.inr ⟨h0, b1, b2, d1, d2, h1, h2, ih _ _ h3, ih _ _ h4, h5⟩))
theorem TestC.mono {G : Nat → Prop} (hG : ∀ c, F c → G c) : ∀ (n a : Nat) (c : List (Int32 × Int32)), TestC F σ sh n a c → TestC G σ sh n a c := by
  intro n
  induction n with
  | zero => intro a c h; exact h.elim
  | succ n ih =>
    intro a c h
    obtain ⟨m, d, hm, hF, h⟩ := h
    · refine ⟨m, d, hm, hG _ hF, ?_⟩
      rcases h with ⟨h0, b1, b2, d1, d2, h1, h2, h3, h4, h5⟩ | ⟨h0, b, d, h1, h2, h3⟩ | ⟨h0, l, e, ds, h1, h2, h3, h4, h5, h6, h7⟩
      · exact Or.inl ⟨h0, b1, b2, d1, d2, h1, h2, SumC.mono hG _ _ _ h3, SumC.mono hG _ _ _ h4, h5⟩
      · exact Or.inr (Or.inl ⟨h0, b, d, h1, ih _ _ h2, h3⟩)
      · refine Or.inr (Or.inr ⟨h0, l, e, ds, h1, hG _ h2, hG _ h3, h4, h5, fun i d hi => ?_, h7⟩)
        obtain ⟨b, q1, q2⟩ := h6 i d hi
        exact ⟨b, q1, ih _ _ q2⟩
theorem StepC.mono {G : Nat → Prop} (hG : ∀ c, F c → G c) {f : Nat → Int32} {k a : Nat} (h : StepC F σ sh f k a) : StepC G σ sh f k a := by
  obtain ⟨hF, s, h1, h2, h3, ⟨b, h4, h5⟩, h6, h7⟩ := h
  refine ⟨hG _ hF, s, h1, h2, h3, ⟨b, h4, ?_⟩, ?_, ?_⟩
  · rcases h5 with ⟨q0, c, q1, q2⟩ | ⟨q0, q1, q2⟩
    · exact Or.inl ⟨q0, c, SumC.mono hG _ _ _ q1, q2⟩
    · exact Or.inr ⟨q0, hG _ q1, q2⟩
  · rcases h6 with ⟨q0, b, c, q1, q2, q3⟩ | h6
    · exact Or.inl ⟨q0, b, c, q1, SumC.mono hG _ _ _ q2, q3⟩
    · exact Or.inr h6
  · rcases h7 with h7 | ⟨t, c, q0, q1, q2⟩
    · exact Or.inl h7
    · exact Or.inr ⟨t, c, q0, TestC.mono hG _ _ _ q1, q2⟩
theorem RcpC.mono {G : Nat → Prop} (hG : ∀ c, F c → G c) {f : Nat → Int32} {l : Nat} (h : RcpC F σ sh f l) : RcpC G σ sh f l := by
  obtain ⟨e, n, h1, h2, h3, h4, h5, h6, h7⟩ := h
  refine ⟨e, n, hG _ h1, hG _ h2, h3, h4, h5, h6, fun k hk => ?_⟩
  obtain ⟨a, q1, q2⟩ := h7 k hk
  exact ⟨a, q1, q2.mono hG⟩
theorem PieC.mono {G : Nat → Prop} (hG : ∀ c, F c → G c) {f : Nat → Int32} {i a : Nat} (h : PieC F σ sh f i a) : PieC G σ sh f i a := ⟨hG _ h.1, h.2⟩
/-- lists behind another call; G: the frozen set then -/
theorem lstsR.fr {G : Nat → Prop} (hG : ∀ c, F c → G c) {w w' : Nat → Nat} (hw : ∀ i, 3 ≤ i → i < 7 → w' i = w i) (hσ : ∀ c, F c → agc σ σ' c) (hs : ∀ c, F c → sh' c = sh c) (hwσ : ∀ i, 3 ≤ i → i < 7 → agc σ σ' (w i) ∧ sh' (w i) = sh (w i)) {f f' : Nat → Int32} (hf : f' 1 = f 1 ∧ f' 2 = f 2 ∧ ∀ i, 40 ≤ i → i < 8060 → f' i = f i) (h : lstsR F σ sh w f) : lstsR G σ' sh' w' f' := by
  obtain ⟨⟨n, h1, h2, h3, h4, h5⟩, m, g1, g2, g3, g4, g5⟩ := h
  have e3 := hw 3 (by omega) (by omega)
  have e4 := hw 4 (by omega) (by omega)
  have e5 := hw 5 (by omega) (by omega)
  have e6 := hw 6 (by omega) (by omega)
  have q3 := hwσ 3 (by omega) (by omega)
  have q4 := hwσ 4 (by omega) (by omega)
  have q5 := hwσ 5 (by omega) (by omega)
  have q6 := hwσ 6 (by omega) (by omega)
  unfold lstsR
  rw [e3, e4, e5, e6]
  refine ⟨⟨n, h1, hf.1.trans h2, h3.fr q3.1 q3.2 q5.2, fun i hi => ?_, fun i hi => (q5.1.2.2 i).trans (h5 i hi)⟩, m, g1, hf.2.1.trans g2, g3.fr q4.1 q4.2 q6.2, fun i hi => ?_, fun i hi => (q6.1.2.2 i).trans (g5 i hi)⟩
  · obtain ⟨r, a1, a2⟩ := h4 i hi
    refine ⟨r, (q5.1.2.2 i).trans a1, (a2.fr (f' := fun k => f' (60 + 1000 * i + k)) hσ hs (fun k hk => hf.2.2 _ (by omega) (by omega))).mono hG⟩
  · obtain ⟨r, a1, a2⟩ := g4 i hi
    refine ⟨r, (q6.1.2.2 i).trans a1, (a2.fr (f' := f') hσ hs ⟨hf.2.2 _ (by omega) (by omega), hf.2.2 _ (by omega) (by omega)⟩).mono hG⟩
theorem StR.fr {G : Nat → Prop} (hG : ∀ c, F c → G c) {w : Nat → Nat} (hσ : ∀ c, F c → agc σ σ' c) (hs : ∀ c, F c → sh' c = sh c) (hwσ : ∀ i, i < 7 → agc σ σ' (w i) ∧ sh' (w i) = sh (w i)) {cells tongs : Int32} {f f' : Nat → Int32} (hf : ∀ i, i < 8060 → f' i = f i) (h : StR F σ sh w cells tongs f) : StR G σ' sh' w cells tongs f' := by
  obtain ⟨⟨c1, c2, c3, c4, c5⟩, hB, ⟨s0, s1, s2⟩, hL⟩ := h
  have q0 := hwσ 0 (by omega)
  have q1 := hwσ 1 (by omega)
  have q2 := hwσ 2 (by omega)
  refine ⟨⟨?_, ?_, fun c hc => ?_, fun c hc => ?_, fun c hc => ?_⟩, ?_, ⟨q0.2.trans s0, q1.2.trans s1, q2.2.trans s2⟩, hL.fr hG (fun _ _ _ => rfl) hσ hs (fun i _ h => hwσ i h) ⟨hf 1 (by omega), hf 2 (by omega), fun i _ h => hf i h⟩⟩
  · rw [hf 0 (by omega)]; exact c1
  · rw [hf 3 (by omega)]; exact c2
  · rw [hf _ (by omega), q0.1.2.1]; exact c3 c hc
  · rw [hf _ (by omega), q1.1.2.1]; exact c4 c hc
  · rw [hf _ (by omega), q2.1.2.1]; exact c5 c hc
  · obtain ⟨b0, b1, b2, b3, b4, b5, b6, b7, b8⟩ := hB
    unfold cfgB
    rw [hf 0 (by omega), hf 3 (by omega), hf 10 (by omega), hf 11 (by omega), hf 12 (by omega), hf 13 (by omega), hf 14 (by omega)]
    exact ⟨b0, b1, fun c hc => by rw [hf _ (by omega)]; exact b2 c hc, fun c hc => by rw [hf _ (by omega)]; exact b3 c hc, b4, b5, b6, b7, b8⟩
theorem ImR.fr {G : Nat → Prop} (hG : ∀ c, F c → G c) {σm σm' : St} {k : Nat} {O : List Nat} (hk : k < 2) (hσ : ∀ c, F c → agc σ σ' c) (hs : ∀ c, F c → sh' c = sh c) (hO : ∀ c, c ∈ O → agc σ σ' c ∧ sh' c = sh c) (h10 : gR σ' 10 k = gR σ 10 k) (hm4 : gA σm' 4 k = gA σm 4 k) (hm3 : ∀ i, i < 8060 → gA σm' 3 (8060 * k + i) = gA σm 3 (8060 * k + i)) (h : ImR F σ sh σm k O) : ImR G σ' sh' σm' k O := by
  unfold ImR
  rw [hm4, h10]
  rcases h with h | ⟨h1, sc, w, h2, h3, h4, h5, h6⟩
  · exact Or.inl h
  · have qs := hO sc (by rw [h5]; exact List.mem_cons_self)
    have qw : ∀ i, i < 7 → agc σ σ' (w i) ∧ sh' (w i) = sh (w i) := fun i hi => hO _ (by
      rw [h5]
      rcases (show i = 0 ∨ i = 1 ∨ i = 2 ∨ i = 3 ∨ i = 4 ∨ i = 5 ∨ i = 6 by omega) with rfl | rfl | rfl | rfl | rfl | rfl | rfl <;> simp)
    refine Or.inr ⟨h1, sc, w, h2, qs.2.trans h3, fun j hj => (qs.1.2.2 j).trans (h4 j hj), h5, ?_⟩
    rw [qs.1.1, qs.1.1]
    exact h6.fr hG hσ hs qw hm3
end FR
/-- nothing that was told is touched -/
def quiet (σ σ' : St) : Prop := ∀ c, (2 ≤ c ∧ c ≤ 10) ∨ 54 ≤ c → agc σ σ' c
theorem PSt.quiet {σ σ' σm σm' : St} {η : Eta} (hq : quiet σ σ') (h2 : ∀ i, i < 8060 → gA σm' 2 i = gA σm 2 i) (h3 : ∀ i, i < 16120 → gA σm' 3 i = gA σm 3 i) (h4 : ∀ i, i < 2 → gA σm' 4 i = gA σm 4 i) (h : PSt σ η σm) : PSt σ' η σm' := by
  obtain ⟨F, er, ep, O1, O2, a1, a2, a3, a4, a5, a6, a7, a8, a9⟩ := h
  have hσ : ∀ c, F c → agc σ σ' c := fun c hc => hq c (Or.inr (a5 c hc).1)
  refine ⟨F, er, ep, O1, O2, ?_, ?_, ?_, a4, a5, a6, a7, a8, a9⟩
  · rw [(hq 2 (by omega)).1, (hq 2 (by omega)).1]
    refine a1.fr (fun _ h => h) hσ (fun _ _ => rfl) (fun i hi => ⟨hq _ ?_, rfl⟩) h2
    rcases (show i = 0 ∨ i = 1 ∨ i = 2 ∨ i = 3 ∨ i = 4 ∨ i = 5 ∨ i = 6 by omega) with rfl | rfl | rfl | rfl | rfl | rfl | rfl
    · exact Or.inl (by decide : 2 ≤ 3 ∧ 3 ≤ 10)
    · exact Or.inl (by decide : 2 ≤ 4 ∧ 4 ≤ 10)
    · exact Or.inl (by decide : 2 ≤ 5 ∧ 5 ≤ 10)
    · exact Or.inl (by decide : 2 ≤ 6 ∧ 6 ≤ 10)
    · exact Or.inl (by decide : 2 ≤ 8 ∧ 8 ≤ 10)
    · rcases a7 with q | q
      · exact Or.inl (by show 2 ≤ er ∧ er ≤ 10; omega)
      · exact Or.inr q
    · rcases a8 with q | q
      · exact Or.inl (by show 2 ≤ ep ∧ ep ≤ 10; omega)
      · exact Or.inr q
  · exact a2.fr (fun _ h => h) (by omega) hσ (fun _ _ => rfl) (fun c hc => ⟨hq c (Or.inr (a6 c (List.mem_append_left _ hc)).1), rfl⟩) ((hq 10 (by omega)).2.2 0) (h4 0 (by omega)) (fun i hi => h3 _ (by omega))
  · exact a3.fr (fun _ h => h) (by omega) hσ (fun _ _ => rfl) (fun c hc => ⟨hq c (Or.inr (a6 c (List.mem_append_right _ hc)).1), rfl⟩) ((hq 10 (by omega)).2.2 1) (h4 1 (by omega)) (fun i hi => h3 _ (by omega))
