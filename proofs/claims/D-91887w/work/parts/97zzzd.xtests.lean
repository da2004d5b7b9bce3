/-! the plain law: the Reader's tests joined -/
set_option maxRecDepth 100000
noncomputable def gLsB (i : Nat) (gP : Nat → St → Eta → Option ((Nat × St × Eta) ⊕ (Nat × St × Eta))) (a a2 : Nat) (σ : St) (η : Eta) : Option (((St × Eta) ⊕ (Nat × St × Eta)) ⊕ (St × Eta)) := ckS (η.1 a) xD7 (bn3 (gTk i a σ η) (fun r1 σ2 η3 => if r1 = 0 then some (.inl (.inl (σ2, η3))) else ckS (η3.1 a2) xD22 (ckN (gR σ2 a2 1) (fun v3 => ckS (η3.1 a) xD7 (bx3 (gP a σ2 η3) (fun q8 σ9 η10 => some (.inl (.inr (q8, σ9, η10)))) (fun r4 σ5 η6 => ckS (η6.1 v3) xD24 (bn3 (fJ2_add v3 r4 σ5 η6) (fun _ σ2 η3 => some (.inr (σ2, η3))))))))))
noncomputable def gLsX (a2 : Nat) (ex : (St × Eta) ⊕ (Nat × St × Eta)) : Option ((Nat × St × Eta) ⊕ (Nat × St × Eta)) := match ex with
  | (.inl (σ', η')) => some (.inl (a2, σ', η'))
  | (.inr (q', σ', η')) => some (.inr (q', σ', η'))
noncomputable def gLs (i : Nat) (fl : Int32) (gP : Nat → St → Eta → Option ((Nat × St × Eta) ⊕ (Nat × St × Eta))) (a : Nat) (σ : St) (η : Eta) : Option ((Nat × St × Eta) ⊕ (Nat × St × Eta)) := ckF (ckS (η.1 a) xD7 (bx3 (gP a σ η) (fun q5 σ6 η7 => some (.inr (q5, σ6, η7))) (fun r1 σ2 η3 => ckS (η3.1 a) xD7 (bn3 (gIs i a σ2 η3) (fun t σ4 η5 => if t = 0 then some (.inl (r1, σ4, η5)) else bn2 (fX25_init η5.2.1 fl (aS σ4 η5.2.1) (aE η5 xD22 2)) (fun σ6 η7 => ckS (η7.1 η5.2.1) xD22 (ckN (gR σ6 η5.2.1 1) (fun v2 => ckS (η7.1 v2) xD24 (bn3 (fJ2_add v2 r1 σ6 η7) (fun _ σ8 η9 => bn1 (iter (fun v : St × Eta => gLsB i gP a η5.2.1 v.1 v.2) FU (σ8, η9)) (fun ex => gLsX η5.2.1 ex)))))))))))
theorem ls_both (FT : Nat → St → Eta → Option ((Nat × St × Eta) ⊕ (Nat × St × Eta))) : fX7_both FT = gLs 24 1 (fX7_plain FT) := rfl
theorem ls_test (FT : Nat → St → Eta → Option ((Nat × St × Eta) ⊕ (Nat × St × Eta))) : fX7_test FT = gLs 25 0 (fX7_both FT) := rfl
/-- a list under way: its Several t, the codes ds -/
def LsX (lo k t : Nat) (fl : Int32) (e : Nat) (ds : List Cd) (σ : St) (η : Eta) : Prop := (lo ≤ t ∧ t + 1 < η.2.1 ∧ lo ≤ e ∧ e < η.2.1 ∧ t ≠ e) ∧ η.1 t = xD22 ∧ gI σ t 0 = fl ∧ gR σ t 1 = some (t + 1) ∧ LstC σ η.1 (t + 1) e ds.length ∧ ∀ i d, ds[i]? = some d → ∃ b, gR σ e i = some b ∧ TestC (fun c => rg lo η.2.1 c ∧ c ≠ t ∧ c ≠ t + 1 ∧ c ≠ e) σ η.1 k b d
section XL
variable {T : Nat → Int32} {n a : Nat} {σ σ' σ1 σ2 : St} {η η' η1 η2 : Eta} {s s' s1 : SP}
theorem LsX.xf {lo k t e : Nat} {fl : Int32} {ds : List Cd} (h : LsX lo k t fl e ds σ1 η1) (ha : a < lo) (f : xF a σ1 η1 σ2 η2) : LsX lo k t fl e ds σ2 η2 := by
  obtain ⟨⟨a1, a2, a3, a4, a5⟩, h1, h2, h3, h4, h5⟩ := h
  have g := f.2.2.1
  have hs := f.1.2.2.1
  have hle := f.1.1
  refine ⟨⟨a1, by omega, a3, by omega, a5⟩, (hs t (by omega)).trans h1, ((g t (by omega) (by omega)).1 0).trans h2, ((g t (by omega) (by omega)).2.2 1).trans h3, h4.fr (g (t + 1) (by omega) (by omega)) (hs _ (by omega)) (hs _ (by omega)), fun i d hi => ?_⟩
  obtain ⟨b, q1, q2⟩ := h5 i d hi
  refine ⟨b, ((g e a4 (by omega)).2.2 i).trans q1, TestC.mono (fun c hc => ⟨rg.up (Nat.le_refl _) hle c hc.1, hc.2⟩) _ _ _ (TestC.fr (fun c hc => g c hc.1.2 (by have := hc.1.1; omega)) (fun c hc => hs c hc.1.2) _ _ _ q2)⟩
/-- one more -/
theorem LsX.ad {lo k t e b : Nat} {fl : Int32} {ds : List Cd} {d : Cd} (h : LsX lo k t fl e ds σ1 η1) (hA : AOK η1) (hn : ds.length ≤ 60) (hb : TestC (fun c => rg lo η1.2.1 c ∧ c ≠ t ∧ c ≠ t + 1 ∧ c ≠ e) σ1 η1.1 k b d) : ∃ (S : St) (E : Eta) (e' : Nat), fJ2_add (t + 1) b σ1 η1 = some (1, S, E) ∧ LsX lo k t fl e' (ds ++ [d]) S E ∧ AOK E ∧ EX η1 E ∧ (∀ c, c < lo → agc σ1 S c) ∧ E.2.1 ≤ η1.2.1 + 1 ∧ E.2.2 ≤ η1.2.2 + 91 := by
  obtain ⟨⟨a1, a2, a3, a4, a5⟩, h1, h2, h3, h4, h5⟩ := h
  have hob : ∀ i, i < ds.length → ∀ y, gR σ1 e i = some y → obS (η1.1 y) := fun i hi y hy => by
    obtain ⟨b', q1, q2⟩ := h5 i ds[i] (List.getElem?_eq_getElem hi)
    rw [q1] at hy
    cases hy
    exact q2.ob
  obtain ⟨S, E, e', p1, p2, p3, p4, p5, p6, p7, p8, p9, p10, p11⟩ := h4.add2 hA (by omega) hb.ob hob
  have hle := p2.1
  have hs := p2.2.2.1
  have e'lt : e' < E.2.1 := by
    obtain ⟨len, w1, -⟩ := p6.2.2.1
    exact p3.lt (by rw [w1]; exact n29)
  have hte : t ≠ e' ∧ lo ≤ e' := by rcases p7 with q | q <;> omega
  have agF : ∀ c, (rg lo η1.2.1 c ∧ c ≠ t ∧ c ≠ t + 1 ∧ c ≠ e) → agc σ1 S c ∧ c ≠ e' := fun c hc => by
    have hc2 := hc.1.2
    have : c ≠ e' := by rcases p7 with q | q <;> omega
    exact ⟨p11 c hc.2.2.1 this hc2, this⟩
  have up : ∀ (b : Nat) (d : Cd), TestC (fun c => rg lo η1.2.1 c ∧ c ≠ t ∧ c ≠ t + 1 ∧ c ≠ e) σ1 η1.1 k b d → TestC (fun c => rg lo E.2.1 c ∧ c ≠ t ∧ c ≠ t + 1 ∧ c ≠ e') S E.1 k b d := fun b d q =>
    TestC.mono (fun c hc => ⟨rg.up (Nat.le_refl _) hle c hc.1, hc.2.1, hc.2.2.1, (agF c hc).2⟩) _ _ _ (TestC.fr (fun c hc => (agF c hc).1) (fun c hc => hs c hc.1.2) _ _ _ q)
  have gt := p11 t (by omega) hte.1 (by omega)
  refine ⟨S, E, e', p1, ⟨⟨a1, by omega, hte.2, e'lt, hte.1⟩, (hs t (by omega)).trans h1, (gt.1 0).trans h2, (gt.2.2 1).trans h3, by rw [List.length_append]; exact p6, fun i d' hi => ?_⟩, p3, p2, fun c hc => p11 c (by omega) (by rcases p7 with q | q <;> omega) (by omega), p4, by omega⟩
  by_cases z : i < ds.length
  · rw [List.getElem?_append_left z] at hi
    obtain ⟨b', q1, q2⟩ := h5 i d' hi
    exact ⟨b', (p8 i z).trans q1, up _ _ q2⟩
  · have hlt := (List.getElem?_eq_some_iff.mp hi).1
    rw [List.length_append, List.length_singleton] at hlt
    have ei : i = ds.length := by omega
    subst ei
    rw [List.getElem?_append_right (Nat.le_refl _), Nat.sub_self, List.getElem?_cons_zero] at hi
    cases hi
    exact ⟨b, p9, up _ _ hb⟩
theorem xF.ls (f : xF a σ η σ1 η1) (ha : a < η.2.1) (hA : AOK η2) (hE : EX η1 η2) (g : ∀ c, c < η.2.1 → agc σ1 σ2 c) : xF a σ η σ2 η2 :=
  ⟨f.1.tr hE, hA, fun c hc ca => (f.2.2.1 c hc ca).tr (g c hc), fun k a1 a2 a3 a4 => ((g a ha).1 k).trans (f.2.2.2.1 k a1 a2 a3 a4), fun k => ((g a ha).2.1 k).trans (f.2.2.2.2.1 k), fun k => ((g a ha).2.2 k).trans (f.2.2.2.2.2 k)⟩
theorem XR.ls (h : XR T n a s σ1 η1) (hA : AOK η2) (hE : EX η1 η2) (ga : agc σ1 σ2 a) (g11 : agc σ1 σ2 11) : XR T n a s σ2 η2 := by
  have hal := h.al
  obtain ⟨⟨⟨a1, a2, a3, a4, a5, a6, a7⟩, b1, b2, b3, b4, b5⟩, c1, c2, hA1⟩ := h
  have h11 : 11 < η1.2.1 := by have := hA1.2.2; omega
  exact ⟨⟨⟨a1, hA.1, (hE.2.2.1 a hal).trans a3, (hE.2.2.1 11 h11).trans a4, (ga.2.2 0).trans a5, (ga.1 1).trans a6, fun i hi => (g11.2.1 i).trans (a7 i hi)⟩, b1, b2, b3, (ga.1 3).trans b4, (ga.1 4).trans b5⟩, ⟨(ga.1 5).trans c1.1, c1.2⟩, ⟨(ga.1 6).trans c2.1, c2.2⟩, hA⟩
theorem x_llp {i f k t : Nat} {o fl : Int32} {pP : SP → RP} {gP : Nat → St → Eta → Option ((Nat × St × Eta) ⊕ (Nat × St × Eta))} (hi : i < 27) (hL : 2 ≤ sL i) (hg : pgP T n pP) (hP : ∀ s σ η, XR T n a s σ η → 8 ≤ s.2.2.2 + f → RunX T n a s σ η (pP s) (gP a σ η) (gdY k η s)) (h : XR T n a s σ η) (hf : 8 ≤ s.2.2.2 + f) : ∀ m ds s1 σ1 η1 e u, XR T n a s1 σ1 η1 → xF a σ η σ1 η1 → η1.2.1 + 40 * s.1 ≤ η.2.1 + 40 * s1.1 + 4 * u → η1.2.2 + 140 * s.1 ≤ η.2.2 + 140 * s1.1 + 98 * u → (u = 0 ∨ (u = 1 ∧ iS T i s1 = true)) → LsX η.2.1 k t fl e ds σ1 η1 → 1 ≤ ds.length → ds.length ≤ s1.2.2.1 → pg T n s (sevC o ds) s1 → 62 ≤ m + s1.2.2.1 →
    ∃ K ex, Rn (fun v : St × Eta => gLsB i gP a t v.1 v.2) K (σ1, η1) ex ∧ K ≤ m + 1 ∧ ((∃ q kq σ' η', pLp T n (fun s => if iS T i s = true then some o else none) pP m (sevC o ds) s1 = .inl q ∧ ex = .inr (kq, σ', η') ∧ XBd a s σ η q kq σ' η') ∨ ∃ ds' s' σ' η' e', pLp T n (fun s => if iS T i s = true then some o else none) pP m (sevC o ds) s1 = .inr (sevC o ds', s') ∧ ex = .inl (σ', η') ∧ XG T n a s σ η s' σ' η' ∧ LsX η.2.1 k t fl e' ds' σ' η' ∧ 1 ≤ ds'.length) := by
  have h10 : ¬ (1 : Int32) = 0 := by decide
  have hal := h.al
  have h54 := h.2.2.2.2.2
  intro m
  induction m with
  | zero => intro ds s1 σ1 η1 e u _ _ _ _ _ _ _ _ g hm; have := g.2.2.2.1; omega
  | succ m ih =>
    intro ds s1 σ1 η1 e u h1 f1 c1 c2 hu hls hd1 hdl g hm
    obtain ⟨g1, g2, g3, g4, g5, g6⟩ := g
    have hs := h1.sa
    by_cases y : iS T i s1 = true
    · have hto : s1.2.1 = s1.1 + sL i := (isS_t.mp y).1
      obtain ⟨k1, k2⟩ := nxS_ok g1 s1.2.2
      obtain ⟨n1, n2⟩ := h1.nx
      have h2 := n2.1
      have f2 := f1.tr n2.2.1
      have hls2 := hls.xf hal n2.2.1
      have eL : pLp T n (fun s => if iS T i s = true then some o else none) pP (m + 1) (sevC o ds) s1 = bnP (pP (nxS T n s1)) (fun d s' => pLp T n (fun s => if iS T i s = true then some o else none) pP m (sevC o ds ++ d ++ [(o, 0)]) s') := by
        show (match (if iS T i s1 = true then some o else none) with | none => _ | some o => _) = _
        rw [if_pos y]
      have u1 : u ≤ 1 := by omega
      have d1 : η1.2.1 + 40 * s.1 ≤ η.2.1 + 40 * (nxS T n s1).1 := by
        show _ ≤ η.2.1 + 40 * nxF T n s1.2.1; omega
      have d2 : η1.2.2 + 140 * s.1 ≤ η.2.2 + 140 * (nxS T n s1).1 := by
        show _ ≤ η.2.2 + 140 * nxF T n s1.2.1; omega
      have eB : gLsB i gP a t σ1 η1 = bx3 (gP a (rS σ1 a (nxF T n s1.2.1) (nxT T n s1.2.1)) η1) (fun q8 σ9 η10 => some (.inl (.inr (q8, σ9, η10)))) (fun r4 σ5 η6 => ckS (η6.1 (t + 1)) xD24 (bn3 (fJ2_add (t + 1) r4 σ5 η6) (fun _ σ2 η3 => some (.inr (σ2, η3))))) := by
        unfold gLsB
        rw [ckS_t hs, h1.tk hi, if_pos y, bn3_s, if_neg h10, ckS_t hls2.2.1, hls2.2.2.2.1, ckN_s, ckS_t h2.sa]
      rw [eL]
      rcases hP _ _ _ h2 (show 8 ≤ s1.2.2.2 + f by rw [g5]; exact hf) with ⟨q, kq, σ3, η3, r1, r2, r3⟩ | ⟨d, s3, b, σ3, η3, r1, r2, r3, r4⟩
      · exact ⟨1, _, Rn.stop (b := .inr (kq, σ3, η3)) (by show gLsB i gP a t σ1 η1 = _; rw [eB, r2, bx3_r]), by omega, Or.inl ⟨q, kq, σ3, η3, by rw [r1]; rfl, rfl, XBd.of f2 (show s.1 ≤ nxF T n s1.2.1 by omega) d1 d2 r3⟩⟩
      · obtain ⟨p1, p2, p3, p4, p5, p6⟩ := hg _ _ _ k1 g4 r1
        have p2' : nxF T n s1.2.1 + d.length ≤ s3.1 := p2
        have p3' : s1.2.2.1 < s3.2.2.1 := p3
        have hls3 := hls2.xf hal r3.2.1
        have hle3 := r3.2.1.1.1
        have hle1 := f1.1.1
        have hA3 := r3.1.2.2.2
        obtain ⟨⟨w1, w2, w3, w4, w5⟩, -⟩ := hls2
        obtain ⟨S, E, e', v1, v2, v3, v4, v5, v6, v7⟩ := hls3.ad hA3 (by omega) (TestC.mono (fun c hc => ⟨⟨by have := hc.1; omega, hc.2⟩, by have := hc.1; omega, by have := hc.1; omega, by have := hc.1; omega⟩) _ _ _ r4)
        obtain ⟨x0, x1, x2, x3⟩ := r3
        have x2' : η3.2.1 + 40 * nxF T n s1.2.1 ≤ η1.2.1 + 40 * s3.1 := x2
        have x3' : η3.2.2 + 140 * nxF T n s1.2.1 ≤ η1.2.2 + 140 * s3.1 := x3
        have eS := sevC_s o hd1 d
        obtain ⟨K, ex, t1, t2, t3⟩ := ih (ds ++ [d]) s3 S E e' 0 (x0.ls v3 v4 (v5 a hal) (v5 11 (by omega))) ((f2.tr x1).ls hal v3 v4 v5) (by omega) (by omega) (Or.inl rfl) v2 (by rw [List.length_append]; exact Nat.le_trans hd1 (Nat.le_add_right _ _)) (by rw [List.length_append, List.length_singleton]; omega) (by
          rw [eS]
          exact ⟨p1, by rw [List.length_append, List.length_append, List.length_singleton]; omega, Nat.lt_trans g3 p3', p4, p5.trans g5, by rw [List.length_append]; exact Nat.le_trans (Nat.le_refl 1) (Nat.le_add_left _ _)⟩) (by omega)
        refine ⟨K + 1, ex, Rn.step (a' := (S, E)) ?_ t1, by omega, ?_⟩
        · show gLsB i gP a t σ1 η1 = _
          rw [eB, r2, bx3_l, ckS_t hls3.2.2.2.2.1.1, v1, bn3_s]
        · rw [eS] at t3
          rw [r1]
          exact t3
    · have hu0 : u = 0 := by
        rcases hu with e | ⟨-, e⟩
        · exact e
        · exact absurd e y
      subst hu0
      refine ⟨1, .inl (σ1, η1), Rn.stop ?_, by omega, Or.inr ⟨ds, s1, σ1, η1, e, ?_, rfl, ⟨h1, f1, by omega, by omega⟩, hls, hd1⟩⟩
      · show gLsB i gP a t σ1 η1 = _
        unfold gLsB
        rw [ckS_t hs, h1.tk hi, if_neg y, bn3_s, if_pos rfl]
      · show (match (if iS T i s1 = true then some o else none) with | none => _ | some o => _) = _
        rw [if_neg y]
theorem x_lst {i f k : Nat} {o fl : Int32} {pP : SP → RP} {gP : Nat → St → Eta → Option ((Nat × St × Eta) ⊕ (Nat × St × Eta))} (hi : i < 27) (hL : 2 ≤ sL i) (hfo : (fl = 1 ∧ o = 28) ∨ (fl = 0 ∧ o = 29)) (hg : pgP T n pP) (hP : ∀ s σ η, XR T n a s σ η → 8 ≤ s.2.2.2 + f → RunX T n a s σ η (pP s) (gP a σ η) (gdY k η s)) (h : XR T n a s σ η) (hf : 8 ≤ s.2.2.2 + f) : RunX T n a s σ η (bnP (pP s) (fun c s' => pLp T n (fun s => if iS T i s = true then some o else none) pP 61 c s')) (gLs i fl gP a σ η) (gdY (k + 1) η s) := by
  have h10 : ¬ (1 : Int32) = 0 := by decide
  have hal := h.al
  have h54 := h.2.2.2.2.2
  unfold gLs
  rw [ckS_t h.sa]
  rcases hP s σ η h hf with ⟨q, kq, σ3, η3, r1, r2, r3⟩ | ⟨c, s1, b, σ1, η1, r1, r2, r3, r4⟩
  · exact Or.inl ⟨q, kq, σ3, η3, by rw [r1]; rfl, by rw [r2, bx3_r]; exact ckF_t r3.2.1, r3⟩
  rw [r1, r2, bx3_l]
  have g := hg _ _ _ h.oks h.2.1.2 r1
  have h1 := r3.1
  have hle := r3.2.1.1.1
  have hA1 := h1.2.2.2
  rw [ckS_t h1.sa, h1.is hi, bn3_s]
  show RunX T n a s σ η (pLp T n (fun s => if iS T i s = true then some o else none) pP 61 c s1) _ _
  by_cases y : iS T i s1 = true
  · rw [if_pos y, if_neg h10]
    obtain ⟨S, v1, v2, v3, v4, v5, v6⟩ := x_svl (σ := σ1) hA1 (fl := fl) (by rcases hfo with ⟨e, -⟩ | ⟨e, -⟩ <;> rw [e] <;> decide)
    rw [v1, bn2_s]
    have hE : EX η1 (aE (aE (aE η1 xD22 2) xD24 3) (2, 3, 2, []) 2) := ((EX.aE (by decide)).tr (EX.aE (by decide))).tr (EX.aE n29)
    have hA2 : AOK (aE (aE (aE η1 xD22 2) xD24 3) (2, 3, 2, []) 2) := ((hA1.aE (by decide)).aE (by decide)).aE n29
    have z1 : (aE (aE (aE η1 xD22 2) xD24 3) (2, 3, 2, []) 2).2.1 = η1.2.1 + 3 := rfl
    have z2 : (aE (aE (aE η1 xD22 2) xD24 3) (2, 3, 2, []) 2).2.2 = η1.2.2 + 7 := rfl
    generalize aE (aE (aE η1 xD22 2) xD24 3) (2, 3, 2, []) 2 = E1 at v1 v5 v6 hE hA2 z1 z2 ⊢
    have hl0 : LsX η.2.1 k η1.2.1 fl (η1.2.1 + 2) [] S E1 := ⟨⟨hle, by omega, by omega, by omega, by omega⟩, v6, v3, v4, v5, fun i d hi => by cases hi⟩
    have r4' : TestC (fun c => rg η.2.1 E1.2.1 c ∧ c ≠ η1.2.1 ∧ c ≠ η1.2.1 + 1 ∧ c ≠ η1.2.1 + 2) S E1.1 k b c :=
      TestC.mono (fun c hc => ⟨⟨hc.1, by have := hc.2; omega⟩, by have := hc.2; omega, by have := hc.2; omega, by have := hc.2; omega⟩) _ _ _ (TestC.fr (fun c hc => v2 c hc.2) (fun c hc => hE.2.2.1 c hc.2) _ _ _ r4)
    obtain ⟨S2, E2, e2, w1, w2, w3, w4, w5, w6, w7⟩ := hl0.ad hA2 (Nat.zero_le _) r4'
    have hX : XR T n a s1 S2 E2 := (h1.ls hA2 hE (v2 a (by omega)) (v2 11 (by omega))).ls w3 w4 (w5 a hal) (w5 11 (by omega))
    have f2 := (r3.2.1.ls hal hA2 hE (fun c hc => v2 c (by omega))).ls hal w3 w4 w5
    obtain ⟨-, -, x2, x3⟩ := r3
    have glv := g.2.2.1
    obtain ⟨K, ex, t1, t2, t3⟩ := x_llp (o := o) (fl := fl) hi hL hg hP h hf 61 [c] s1 S2 E2 e2 1 hX f2 (by omega) (by omega) (Or.inr ⟨rfl, y⟩) w2 (Nat.le_refl _) (by show 1 ≤ s1.2.2.1; omega) g (by omega)
    rw [ckS_t v6, v4, ckN_s, ckS_t v5.1, w1, bn3_s, t1.fu (by rw [FU_v]; omega), bn1_s]
    rcases t3 with ⟨q, kq, σ4, η4, u1, rfl, u3⟩ | ⟨ds', s', σ4, η4, e', u1, rfl, u3, u4, u5⟩
    · exact Or.inl ⟨q, kq, σ4, η4, u1, ckF_t u3.2.1, u3⟩
    · refine Or.inr ⟨sevC o ds', s', η1.2.1, σ4, η4, u1, rfl, u3, ?_⟩
      obtain ⟨⟨a1, a2, a3, a4, a5⟩, b1, b2, b3, b4, b5⟩ := u4
      refine ⟨0, sevC o ds', (List.append_nil _).symm, ⟨a1, by omega⟩, Or.inr (Or.inr ⟨b1, η1.2.1 + 1, e', ds', b3, ⟨by omega, a2⟩, ⟨a3, a4⟩, b4, u5, fun i d hi => ?_, ?_⟩)⟩
      · obtain ⟨b', q1, q2⟩ := b5 i d hi
        exact ⟨b', q1, TestC.mono (fun c hc => hc.1) _ _ _ q2⟩
      · rw [b2]
        rcases hfo with ⟨rfl, rfl⟩ | ⟨rfl, rfl⟩
        · exact Or.inl ⟨rfl, rfl⟩
        · exact Or.inr ⟨rfl, rfl⟩
  · rw [if_neg y, if_pos rfl]
    refine Or.inr ⟨c, s1, b, σ1, η1, ?_, rfl, r3, TestC.up (n := k) r4 (Nat.le_succ k)⟩
    show (match (if iS T i s1 = true then some o else none) with | none => _ | some o => _) = _
    rw [if_neg y]
theorem x_both {f : Nat} (hT : TestX T n a f) (h : XR T n a s σ η) (hf : 8 ≤ s.2.2.2 + f) : RunX T n a s σ η (pBoth T n (pTest T n f) s) (fX7_both (fRTest f) a σ η) (gdY (3 * f + 3) η s) := by
  rw [ls_both]
  exact x_lst (o := 28) (k := 3 * f + 2) (by decide) (by decide) (Or.inl ⟨rfl, rfl⟩) (pPlain_g (pTest_g f)) (fun s σ η h hf => x_plain hT h hf) h hf
theorem x_test : ∀ f, TestX T n a f := by
  intro f
  induction f with
  | zero => intro s σ η h hf; have := h.2.2.1.2; omega
  | succ f ih =>
    intro s σ η h hf
    show RunX T n a s σ η (pTest T n (f + 1) s) (fX7_test (fRTest f) a σ η) (gdY (3 * f + 3 + 1) η s)
    rw [ls_test]
    exact x_lst (o := 29) (k := 3 * f + 3) (by decide) (by decide) (Or.inr ⟨rfl, rfl⟩) (pBoth_g (pTest_g f)) (fun s σ η h hf => x_both ih h hf) h (by omega)
end XL
