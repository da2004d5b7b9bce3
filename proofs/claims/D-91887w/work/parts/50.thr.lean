/-! Throwable.<init>(null, null, false, false) on a Fault: by hand (two statics of which nothing is known pass through it) -/
set_option maxRecDepth 100000
def fJ3_thr (a0 : Nat) (a3 a4 : Int32) (σ : St) (η : Eta) : Option (St × Eta) := ckS (η.1 a0) xD8 (if a3 = 0 ∧ a4 = 0 then some (pR (pR (pR (pR σ a0 0 none) a0 1 none) a0 2 none) a0 3 none, η) else none)
theorem fJ3_thr_e {a0 : Nat} {a3 a4 : Int32} {σ : St} {η : Eta} {o : St × Eta} (h : fJ3_thr a0 a3 a4 σ η = some o) : η.1 a0 = xD8 ∧ a3 = 0 ∧ a4 = 0 ∧ o = (pR (pR (pR (pR σ a0 0 none) a0 1 none) a0 2 none) a0 3 none, η) := by
  unfold fJ3_thr at h
  obtain ⟨h1, h⟩ := ckS_e h
  split at h
  · rename_i h2
    cases h
    exact ⟨h1, h2.1, h2.2, rfl⟩
  · cases h
theorem mofJ3_thr {a0 : Nat} {a3 a4 : Int32} {σ : St} {η : Eta} {o : St × Eta} (h : fJ3_thr a0 a3 a4 σ η = some o) : EX η o.2 := by
  obtain ⟨-, -, -, rfl⟩ := fJ3_thr_e h
  exact EX.rf
section THR
variable {p : Program} {l : Launch} {e : Env} {R : Room} {s : State} {m : MethodId} {args : Array Value} {below : List Frame} {meth : Method} {c : Code} {H : Heap} {locs : List Loc} {cells slots : Nat} {Q : State → Prop}
variable {ad : Nat → Nat} {dc : Nat → ClassId} {D : va_G} {A : Nat → Prop} {pc idx : Nat} {ls : Array Slot} {rest : List Value} {ws : va_W} {i a : Nat} {vs : List Value} {v : Value}
theorem t_put (C0 : Cx ad dc D RJ3 cJ3_init_3 5 p s m args meth c) (hi : i < ws.length) (hP : va_P D vwCl (ws.set i (a, .inr (8, vs))) H) (hD : va_D A (ws.set i (a, .inr (8, vs)))) (hS : va_S A s.heap H locs) (hlen : vs.length = 7) (j : Nat) (hj : j < 7) (hq : Cond.fieldLink RJ3 idx (TX8 j).1 (TX8 j).2.1 (TX8 j).2.2.1 ∈ lw_all) (hfin : (TX8 j).2.2.2 = false) (hn : narrow (tyX8 j) v = v) (hfit : fits (tyX8 j) v = true) (hdg : decode cJ3_init_3 pc = .ok (.putfield idx, 3))
    (kk : ∀ H1 locs1, va_P D vwCl (ws.set i (a, .inr (8, vs.set j v))) H1 → va_D A (ws.set i (a, .inr (8, vs.set j v))) → va_S A s.heap H1 locs1 → W p l e R s m args below meth c H1 locs1 cells slots Q (F0 m (pc + 3) ls rest)) : W p l e R s m args below meth c H locs cells slots Q (F0 m pc ls (v :: .ref a :: rest)) := by
  refine va_put (D := D) (ci := 8) (C := RX8) (T := TX8) (N := 7) C0.1 C0.2.1 C0.2.2.2.2.1 in_X8 tyX8 tyX8_ok nmX8 C0.2.2.2.1 C0.2.2.2.2.2.1 hP hD hS i (fs := vs) (by rw [List.getElem?_set_self hi]) rfl j hj (C0.2.2.2.2.1 _ hq) (fun _ h9 => h9) hfin (tyX8_ok j hj) hn hfit (by omega) hdg (fun H1 locs1 h1 h2 h3 => ?_)
  rw [List.set_set] at h1 h2
  exact kk H1 locs1 h1 h2 h3
end THR
theorem zq_v {C n d : String} {A : Nat → Prop} {s : State} {H : Heap} (h : vx_Zq C n d A s H) : ∃ x : Option Nat, va_Z C n d (va_rf x) A s H := by
  rcases h.1 with h | ⟨t, h⟩
  · exact ⟨none, h⟩
  · exact ⟨some t, h⟩
theorem fitA {t : FieldType} {x : Option Nat} : narrow (.array t) (va_rf x) = va_rf x ∧ fits (.array t) (va_rf x) = true := by cases x <;> exact ⟨rfl, rfl⟩
theorem fitO {t : String} {x : Option Nat} : narrow (.object t) (va_rf x) = va_rf x ∧ fits (.object t) (va_rf x) = true := by cases x <;> exact ⟨rfl, rfl⟩
theorem kJ3_thr {l : Launch} {ad : Nat → Nat} {dc : Nat → ClassId} {D : va_G} {A : Nat → Prop} (hi : ∀ i j, ad i = ad j → i = j) {σ σ' : St} {η η' : Eta} (hA : ∀ k, k ∈ ksOf η → A (ad k)) {a0 : Nat} {a3 a4 : Int32} (h : fJ3_thr a0 a3 a4 σ η = some (σ', η')) : aMet l ad dc D A yJ3_init_3 cJ3_init_3 5 none 1 20 σ η η' [.ref (ad a0), .null, .null, .int a3, .int a4] (aQv ad dc D A σ' η') := by
  obtain ⟨hs, rfl, rfl, ho⟩ := fJ3_thr_e h
  obtain ⟨rfl, rfl⟩ := Prod.mk.inj ho
  refine a_metV (by decide) rfl hi hA (Nat.le_of_ble_eq_true rfl) (fun p e s m below meth c Q C0 hnm Kr E ls hl G => ?_)
  have hx := C0.1
  have hb := C0.2.1
  have hk : a0 ∈ ksOf η' := ks_mem E.2.2.2.1 (by rw [hs]; exact (by decide : (0 : Nat) ≠ 9))
  obtain ⟨i, hii⟩ := List.getElem?_of_mem hk
  have he : (wsOf (ksOf η') η'.1 ad dc σ)[i]? = some (ad a0, .inr (8, xDf8.mapIdx (fun j f => fvOf ad σ a0 j f))) := (wsOf_at hii).trans (by rw [ce_o hs])
  obtain ⟨hlt, hget⟩ := List.getElem?_eq_some_iff.mp he
  have hset : (wsOf (ksOf η') η'.1 ad dc σ).set i (ad a0, .inr (8, xDf8.mapIdx (fun j f => fvOf ad σ a0 j f))) = wsOf (ksOf η') η'.1 ad dc σ := by
    rw [← hget]
    exact List.set_getElem_self hlt
  have hP := G.1
  have hD : va_D A (wsOf (ksOf η') η'.1 ad dc σ) := wsOf_D C0.2.2.2.2.2.2.1 G.2.2.1 G.2.2.2
  have hS := G.2.1
  rw [← hset] at hP hD
  have hvs : xDf8.mapIdx (fun j f => fvOf ad σ a0 j f) = [va_rf ((gR σ a0 0).map ad), va_rf ((gR σ a0 1).map ad), va_rf ((gR σ a0 2).map ad), va_rf ((gR σ a0 3).map ad), va_rf ((gR σ a0 4).map ad), .int (gI σ a0 5), .int (gI σ a0 6)] := rfl
  rw [hvs] at hP hD
  obtain ⟨x1, hz1⟩ := zq_v E.2.2.2.2.2.2.1.1
  obtain ⟨x2, hz2⟩ := zq_v E.2.2.2.2.2.2.1.2
  refine lv_aload_n hx hb dJ3_init_3_0 rfl (lv_at hl 0 rfl) ?_
  refine a_obj C0 hl q671 q155 q156 (Nat.le_of_ble_eq_true rfl) (Nat.le_of_ble_eq_true rfl) (Nat.le_of_ble_eq_true rfl) dJ3_init_3_1 ?_
  refine lv_aload_n hx hb dJ3_init_3_4 rfl (lv_at hl 0 rfl) ?_
  refine lv_aload_n hx hb dJ3_init_3_5 rfl (lv_at hl 0 rfl) ?_
  refine t_put C0 hlt hP hD hS rfl 0 (by decide) q689 rfl rfl rfl dJ3_init_3_6 (fun H locs hP hD hS => ?_)
  refine lv_aload_n hx hb dJ3_init_3_9 rfl (lv_at hl 0 rfl) ?_
  refine va_gets C0.1 C0.2.1 hz1 hS C0.2.2.2.1 (C0.2.2.2.2.1 _ q672) (fun _ h => h) dJ3_init_3_10 ?_
  refine t_put C0 hlt hP hD hS rfl 1 (by decide) q690 rfl fitA.1 fitA.2 dJ3_init_3_13 (fun H locs hP hD hS => ?_)
  refine lv_aload_n hx hb dJ3_init_3_16 rfl (lv_at hl 0 rfl) ?_
  refine va_gets C0.1 C0.2.1 hz2 hS C0.2.2.2.1 (C0.2.2.2.2.1 _ q674) (fun _ h => h) dJ3_init_3_17 ?_
  refine t_put C0 hlt hP hD hS rfl 2 (by decide) q691 rfl fitO.1 fitO.2 dJ3_init_3_20 (fun H locs hP hD hS => ?_)
  refine lv_iload hx hb dJ3_init_3_23 (lv_at hl 4 rfl) ?_
  refine lv_if_eq (tgt := 36) hx hb dJ3_init_3_25 (by decide) (fun _ => ?_) (fun q => absurd rfl q)
  refine lv_aload_n hx hb dJ3_init_3_36 rfl (lv_at hl 0 rfl) ?_
  refine lv_null hx hb dJ3_init_3_37 ?_
  refine t_put C0 hlt hP hD hS rfl 1 (by decide) q690 rfl rfl rfl dJ3_init_3_38 (fun H locs hP hD hS => ?_)
  refine lv_aload_n hx hb dJ3_init_3_41 rfl (lv_at hl 0 rfl) ?_
  refine lv_aload_nN hx hb dJ3_init_3_42 rfl (lv_at hl 1 rfl) ?_
  refine t_put C0 hlt hP hD hS rfl 3 (by decide) q688 rfl rfl rfl dJ3_init_3_43 (fun H locs hP hD hS => ?_)
  refine lv_aload_n hx hb dJ3_init_3_46 rfl (lv_at hl 0 rfl) ?_
  refine lv_aload_nN hx hb dJ3_init_3_47 rfl (lv_at hl 2 rfl) ?_
  refine t_put C0 hlt hP hD hS rfl 0 (by decide) q689 rfl rfl rfl dJ3_init_3_48 (fun H locs hP hD hS => ?_)
  refine lv_iload_n hx hb dJ3_init_3_51 rfl (lv_at hl 3 rfl) ?_
  refine lv_if_ne (tgt := 60) hx hb dJ3_init_3_52 (by decide) (fun q => absurd rfl q) (fun _ => ?_)
  refine lv_aload_n hx hb dJ3_init_3_55 rfl (lv_at hl 0 rfl) ?_
  refine lv_null hx hb dJ3_init_3_56 ?_
  refine t_put C0 hlt hP hD hS rfl 2 (by decide) q691 rfl rfl rfl dJ3_init_3_57 (fun H locs hP hD hS => ?_)
  refine W.widen (k := η'.2.1 - η'.2.1) (n := η'.2.2 - η'.2.2) (Nat.zero_le _) (Nat.zero_le _) ?_
  refine Kr _ _ _ _ dJ3_init_3_60 ⟨?_, hS, G.2.2⟩
  have hw := wsOf_set (ad := ad) (dc := dc) (sh := η'.1) (σ := σ) (σ' := pR (pR (pR (pR σ a0 0 none) a0 1 none) a0 2 none) a0 3 none) G.2.2.1 hii (ce_o hs) (fun c hc => ce_off (fun _ => rfl) (fun _ => rfl) (fun _ => rfl) (fun k' => by
    simp only [gR_pR]
    rw [if_neg (fun q => hc q.1), if_neg (fun q => hc q.1), if_neg (fun q => hc q.1), if_neg (fun q => hc q.1)]))
  have hv : xDf8.mapIdx (fun j f => fvOf ad (pR (pR (pR (pR σ a0 0 none) a0 1 none) a0 2 none) a0 3 none) a0 j f) = [va_rf ((gR (pR (pR (pR (pR σ a0 0 none) a0 1 none) a0 2 none) a0 3 none) a0 0).map ad), va_rf ((gR (pR (pR (pR (pR σ a0 0 none) a0 1 none) a0 2 none) a0 3 none) a0 1).map ad), va_rf ((gR (pR (pR (pR (pR σ a0 0 none) a0 1 none) a0 2 none) a0 3 none) a0 2).map ad), va_rf ((gR (pR (pR (pR (pR σ a0 0 none) a0 1 none) a0 2 none) a0 3 none) a0 3).map ad), va_rf ((gR (pR (pR (pR (pR σ a0 0 none) a0 1 none) a0 2 none) a0 3 none) a0 4).map ad), .int (gI (pR (pR (pR (pR σ a0 0 none) a0 1 none) a0 2 none) a0 3 none) a0 5), .int (gI (pR (pR (pR (pR σ a0 0 none) a0 1 none) a0 2 none) a0 3 none) a0 6)] := rfl
  rw [← hw, hv, show gR (pR (pR (pR (pR σ a0 0 none) a0 1 none) a0 2 none) a0 3 none) a0 0 = none by simp [gR_pR], show gR (pR (pR (pR (pR σ a0 0 none) a0 1 none) a0 2 none) a0 3 none) a0 1 = none by simp [gR_pR], show gR (pR (pR (pR (pR σ a0 0 none) a0 1 none) a0 2 none) a0 3 none) a0 2 = none by simp [gR_pR], show gR (pR (pR (pR (pR σ a0 0 none) a0 1 none) a0 2 none) a0 3 none) a0 3 = none by simp [gR_pR], show gR (pR (pR (pR (pR σ a0 0 none) a0 1 none) a0 2 none) a0 3 none) a0 4 = gR σ a0 4 by simp [gR_pR]]
  exact hP
