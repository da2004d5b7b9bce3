/-! the whole -/
set_option maxRecDepth 100000
theorem whole_start {p : Program} {e : Env} {s : State} {m : MethodId} {below : List Frame} {meth : Method} {c : Code} (l : Launch) (hflags : l.flags = flags0) {b L : Nat} {xs : Nat → Int32} (hL : L ≤ 384) (C0 : lw_At p s m meth c b L xs) : W p l e room_1 s m #[Value.ref b] below meth c s.heap [] 0 0 (lw_Z below #[Value.ref b] s) (entryFrame m ([Value.ref b] : List Value).toArray 4) := by
  refine law_start l C0 (fun dc D base ad adm H locs cells slots ls LC0 Lw hc hz hl => ?_)
  obtain ⟨hx, hb, hr, hml, hown, hb0, hX, hbl, hlocks, hgv⟩ := C0
  refine law_loop (PI := PI) hflags PI_bump PI_xok pl_wide pl_bar pl_shape pl_tongs pl_terms pl_feed pl_end pl_row pl_recipe pl_fault pl_steps pl_run pl_came pl_iron pl_welds pl_heats pl_plan pl_reached pl_even pl_change pl_made pl_twelve pl_piece pl_soonest pl_striker pl_image pl_back pl_count pl_status PI_more LC0 hL (fun H locs ls hl hS => ?_) (L + 1) 0 (by omega) (by omega) sM eta1 (shS 54 sM) H locs cells slots ls Lw PI_init (Nat.le_trans hc (Nat.le_add_right _ _)) (Nat.le_trans hz (Nat.le_add_right _ _)) hl
  refine lv_iconst (v := 1) hx hb dL_law_928 (by decide +kernel) ?_
  exact va_forget (fun q hq => hS.2.2 q hq) (lw_ret hx hb hr hlocks dL_law_929)
