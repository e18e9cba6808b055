/-! a Fault made: new; dup; aload i; getfield place; Fault.<init>, as one -/
set_option maxRecDepth 100000
def tb_X9_init (G : g_) : Nat → sem_ := (tN 5 (tN 4 (tL 0 (s_ald 0 1)) (tL 4 (s_ald 0 5))) (tN 6 (tL 5 (s_ild 1 6)) (tN 9 (tL 6 (s_puti fd_X9_place 9)) (tL 9 (s_vret)))))
theorem ok_X9_init (G : g_) : ∀ pc, SemOK G M_X9_init pc (tb_X9_init G pc) := (okN (okN (okL (o_aloadn dX9_init_0 rfl)) (okL (o_aloadn dX9_init_4 rfl))) (okN (okL (o_iloadn dX9_init_5 rfl)) (okN (okL (o_putiF dX9_init_6 fo_X9_place q905 (by decide +kernel) rfl rfl)) (okL (o_vret dX9_init_9 rfl)))))

def Fx_ (G : g_) (a : Nat) (U : State) : Prop := ∃ k, U.vm.classes[(gD G).1 9]? = some k ∧ U.heap[a]? = some (freshCell ((gD G).1 9) k)
theorem Fx_.warm {G : g_} {a : Nat} {s U : State} (hW : s.WarmedH U.vm) (hh : U.heap = s.heap) (h : Fx_ G a s) : Fx_ G a U := by
  obtain ⟨k, h1, h2⟩ := h
  obtain ⟨k', hk', he⟩ := hW.alike.2.2 _ _ h1
  refine ⟨k', hk', ?_⟩
  rw [hh, h2, he]
theorem hset_same {h : hp_} {a : Nat} {e : e_} (hg : hget h a = some e) : hset h a e = h := by
  obtain ⟨f, n, k⟩ := h
  have hg : f a = some e := hg
  unfold hset
  refine Prod.ext (funext fun q => ?_) rfl
  show (if q = a then some e else f q) = f q
  by_cases hq : q = a
  · rw [if_pos hq, hq, hg]
  · rw [if_neg hq]
abbrev fpre_ (G : g_) (a : Nat) (x : Int32) (h : hp_) : Array Value → State → Prop := va_Pc [.ref a, .int x] (fun U => En G U ∧ Rep G h U U.heap ∧ Fx_ G a U)
theorem fa_words {G : g_} {s : State} {args : Array Value} {h : hp_} (ws : ∀ w ∈ lw_all, w.before args s = true) (en : En G s) (rp : Rep G h s s.heap) : ∀ w ∈ FA_, w.before args s = true := by
  obtain ⟨-, -, -, -, -, -, zU, zS, -⟩ := rp.2.2.2.2
  exact vy_c (ws _ q72) (vy_c (ws _ q881) (vy_c (ws _ q890) (vy_c (ws _ q892) (vy_c (ws _ q895) (vy_c (ws _ q897) (vy_c (ws _ q882) (vy_c (ws _ q883) (vy_c (ws _ q83) (vy_c (ws _ q84) (vy_c (ws _ q884) (vy_c (ws _ q889) (vy_c (ws _ q893)
    (vy_c (ws _ q908) (vy_c (ws _ q871) (vy_c (ws _ q909) (vy_c (ws _ q873) (vy_c (ws _ q910) (vy_c (ws _ q875) (vy_c (ws _ q885) (vy_c zU.2.word (vy_c (ws _ q887) (vy_c zS.2.word (vy_c (ws _ q877)
    (vy_c (ws _ q902) (vy_c (ws _ q903) (vy_c (ws _ q904) (vy_c (ws _ q882) (vy_c (en.use q866 rfl)
    (vy_c (ws _ q901) (vy_c (ws _ q862) (vy_c (ws _ q868) (vy_c (ws _ q869) (vy_c (ws _ q870) (vy_c (ws _ q872) (vy_c (ws _ q874) (vy_c (vy_isRefq zU.1) (vy_c (vy_isRefq zS.1) (vy_c (ws _ q880) (vy_c (ws _ q879) (vy_c (ws _ q878) (vy_c (ws _ q911) vy_n)))))))))))))))))))))))))))))))))))))))))
theorem flt_met {G : g_} {h : hp_} {a : Nat} {x : Int32} (hw : hwf h) (hg : hget h a = some (eO 9 [.int 0])) :
    vy_Met (gl G) (mY M_X9_init) (ws_ (mY M_X9_init) (mB M_X9_init) (mL M_X9_init) (mR M_X9_init)) (rmO M_X9_init h (hset h a (eO 9 [.int x]))) (fpre_ G a x h) (QcO G (.inl none) (hset h a (eO 9 [.int x]))) (XcO G (.inl none) (hset h a (eO 9 [.int x]))) 0 0 (gA G) := by
  have hgo : Go_ G M_X9_init 4 [some (.ref a), some (.int x)] [] h (fun o h' => o = .inl none ∧ h' = hset h a (eO 9 [.int x])) :=
    wp_ok (ok_X9_init G) [] 6 4 _ _ h (show ∃ h1, pf fd_X9_place h a (.int x) = some h1 ∧ ((.inl none : o_) = .inl none ∧ h1 = hset h a (eO 9 [.int x])) from ⟨_, pf_of hg rfl (by decide) _, rfl, rfl⟩)
  refine vy_ofW (cc := mB M_X9_init) (maxL := mL M_X9_init) (ret := mR M_X9_init) (by decide +kernel) rfl ?_
  intro p e s mi args below meth c s₁ B hml ht hP
  obtain ⟨rfl, hen, hrep, kX, hk1, hk2⟩ := hP
  have hts := atoms_spec (ws := ws_ (mY M_X9_init) (mB M_X9_init) (mL M_X9_init) (mR M_X9_init)) B.pre
  have cx : Cx G M_X9_init p (rmO M_X9_init h (hset h a (eO 9 [.int x]))) s mi [Value.ref a, .int x].toArray meth c := ⟨B.exec, B.bytes, B.returns, B.notSynchronized, hml, findClass_of_methodNamed B.named, (name_of_methodNamed B.named B.method).1, fun w h => hts w (List.mem_cons_of_mem _ h), hen, rfl, rfl, by
    show _ = []
    rw [List.map_eq_nil_iff]
    exact List.eq_nil_iff_forall_not_mem.mpr fun x hx => ht x hx⟩
  have hlv := lv_entry [Value.ref a, .int x] (n := 2) (Nat.le_refl 2)
  rw [lg_entry_eq]
  have lr : LR M_X9_init [some (.ref a), some (.int x)] ((lg_sl [Value.ref a, .int x] ++ List.replicate (2 - (lg_sl [Value.ref a, .int x]).length) Slot.unset).toArray) :=
    ⟨hlv.1, hlv.2.1, fun i v hi => hlv.2.2 (i, v) (by
      match i, hi with
      | 0, hi => cases hi; simp [lv_args, Value.category]
      | 1, hi => cases hi; simp [lv_args, Value.category]
      | k + 2, hi => simp at hi), fun hn i v hi => by
      match i, hi with
      | 0, hi => cases hi; rfl
      | 1, hi => cases hi; rfl
      | k + 2, hi => simp at hi⟩
  refine lv_aload_n cx.ex cx.cb dX9_init_0 rfl (lr.get rfl) ?_
  intro T hT X
  have htr : e.platform.stackTraces = false := by
    obtain ⟨-, -, -, -, -, -, -, -, -, cell, -, -, -, hno⟩ := hrep.2.2.2.2
    exact (show e.platform.stackTraces = (gl G).stackTraces by rw [X.admits.platform]).trans hno
  obtain ⟨hS, hfc, -⟩ := cx.en.1.1 9 _ rfl
  obtain ⟨V, ce, L, X2, hL, hV, hc1, hc2, hc3, st⟩ := fl_ctor X cx.ex htr cx.ow (fa_words cx.ws cx.en hrep) hfc hk1 (by rw [hT]; exact hk2) (g := F0 mi 1 _ [.ref a]) rfl (by rw [hml]; exact lr.1) rfl (by rw [cx.cb]; exact dX9_init_1) (show 3 < mF M_X9_init by decide) (show 2 * 0 + 0 + 54 ≤ mO M_X9_init by decide) (hS 0 (by decide))
  have hl : a < s.heap.size := (Array.getElem?_eq_some_iff.mp hk2).1
  have hVH : V.heap = s.heap := hV.trans hT
  obtain ⟨hgb, r, hr, cell, e1, e2, e3, e4⟩ := hrep.at hg (fun f => by simp)
  have rp2 : Rep G h s (V.setCell a ce).heap := by
    have := Rep.set (H1 := (V.setCell a ce).heap) hrep (a := a) (e' := eO 9 [.int 0]) hgb (by show (V.heap.setIfInBounds a ce).size = _; rw [Array.size_setIfInBounds, hVH]) (fun q hq => by show (V.heap.setIfInBounds a ce)[q]? = _; rw [Array.getElem?_setIfInBounds, if_neg (fun e => hq e.symm), hVH]) ?_
    · rw [hset_same hg] at this
      exact this
    · refine ⟨r, hr, ce, heapAt_setCell_self (s := V) ce (by rw [hVH]; exact hl), hc1, hc2, fun k hk => ?_⟩
      cases hr
      have hk : k < 1 := hk
      obtain rfl : k = 0 := by omega
      have := e4 0 (by decide)
      cases Option.some.inj (e1.symm.trans hk2)
      rw [show (gD G).2 9 0 = (gD G).2 9 0 from rfl, hc3]
      exact this
  obtain ⟨o, h', b1, b2, b3, ⟨rfl, rfl⟩, b5⟩ := hgo hw
  have := b5 p e (rmO M_X9_init h (hset h a (eO 9 [.int x]))) s mi _ below meth c (V.setCell a ce).heap L 0 0 _ cx lr rp2 (fun q hq => by rw [hL q hq]; exact hgb) (by rw [Nat.add_zero]; exact hrep.1.symm) (by rw [hsz_set, Nat.sub_self]; exact Nat.zero_le _) (by rw [hsl_set, Nat.sub_self]; exact Nat.zero_le _)
  rw [hsz_set, hsl_set, Nat.sub_self, Nat.sub_self] at this
  obtain ⟨t, a1, a2⟩ := this _ rfl X2
  exact ⟨t, st t a1, a2⟩
def s_fault (i : Nat) (cs : List (Nat × Nat)) (nx : Nat) : sem_ := fun L st h _ k => match L[i]?, st with
  | some (some (.ref b)), [] => ∃ x, gf cs h b = some (.int x) ∧ k nx L [.ref (hsz h)] (hnew h (eO 9 [.int x]) 7)
  | _, _ => False
theorem hset_new {h : hp_} {e e' : e_} {n : Nat} : hset (hnew h e n) (hsz h) e' = hnew h e' n := by
  unfold hset hnew
  refine Prod.ext (funext fun q => ?_) rfl
  show (if q = hsz h then some e' else if q = hsz h then some e else h.1 q) = if q = hsz h then some e' else h.1 q
  by_cases hq : q = hsz h
  · rw [if_pos hq, if_pos hq]
  · rw [if_neg hq, if_neg hq, if_neg hq]
/-- a reader's place is got, at this place -/
def gok_ (G : g_) (m : mt_) (pc : Nat) : Prop := ∀ {p : Program} {e : Env} {R : Room} {s : State} {mi : MethodId} {args : Array Value} {below : List Frame} {meth : Method} {c : Code} {H : Heap} {locs : List Loc} {cells slots : Nat} {ls : Array Slot} {Qf : State → Prop} {ws : va_W} {q0 b : Nat} {fs : List Value} {v : Value} {r : List Value},
  Cx G m p R s mi args meth c → va_P (gD G) cls_ ws H → ws[q0]? = some (b, .inr (8, fs)) → fs[0]? = some v → W p (gl G) e R s mi args below meth c H locs cells slots Qf (F0 mi (pc + 3) ls (v :: r)) → W p (gl G) e R s mi args below meth c H locs cells slots Qf (F0 mi pc ls (.ref b :: r))
theorem gok_o {G : g_} {m : mt_} {pc i : Nat} (hd : decode (mB m) pc = .ok (.getfield i, 3)) (hl : Cond.fieldLink (mY m).cls i "MemberShelf$1Reader" "place" "I" ∈ lw_all) : gok_ G m pc :=
  fun cx hP he hv kk => va_get (ref := "MemberShelf$1Reader") (T := TX8) (N := 2) cx.ex cx.cb cx.ws (cls_ok 8 _ rfl).1 cx.ow cx.en.1 hP _ he rfl 0 (by decide) (cx.ws _ hl) (fun _ h => h) hv hd kk
theorem gok_n {G : g_} {m : mt_} {pc i : Nat} {host : String} (hd : decode (mB m) pc = .ok (.getfield i, 3)) (hl : Cond.fieldLinkNest (mY m).cls i "MemberShelf$1Reader" "place" "I" host ∈ lw_tbl) : gok_ G m pc :=
  fun cx hP he hv kk => va_getN (ref := "MemberShelf$1Reader") (host := host) (T := TX8) (N := 2) cx.ex cx.cb cx.ws (cls_ok 8 _ rfl).1 cx.ow cx.en.1 hP _ he rfl 0 (by decide) (cx.en.use hl rfl) (fun _ h => h) hv hd kk
theorem o_fault {G : g_} {m : mt_} {pc iN iX i : Nat} {n : Fin 4} (hd0 : decode (mB m) pc = .ok (.new iN, 3)) (hl : Cond.classLink (mY m).cls iN fN_ ∈ lw_all) (hd3 : decode (mB m) (pc + 3) = .ok (.dup, 1)) (hd4 : decode (mB m) (pc + 4) = .ok (.aload_n n, 1)) (hi : (n : Nat) = i) (hG : gok_ G m (pc + 5))
    (hd8 : decode (mB m) (pc + 8) = .ok (.invokespecial iX, 3)) (h1 : Cond.methodLink (mY m).cls iX (mY M_X9_init) ∈ lw_all) (hF : mF M_X9_init + 1 ≤ mF m) (hO : 19 + mL M_X9_init + mO M_X9_init ≤ mO m) : SemOK G m pc (s_fault i fd_X8_place (pc + 11)) := by
  intro L st h Q k hs hk
  unfold s_fault at hs
  split at hs
  · next b hb =>
    obtain ⟨x, hv, hs⟩ := hs
    obtain ⟨cb, fs, j, hgb, hj, hfs⟩ := of_gf hv
    obtain ⟨rfl, rfl⟩ : cb = 8 ∧ j = 0 := by
      have := lookup_mem hj
      rw [List.mem_singleton] at this
      cases this
      exact ⟨rfl, rfl⟩
    intro hw
    have hw1 := hwf_new hw (eO 9 [.int 0]) 7
    obtain ⟨o, h', a1, a2, a3, a4, a5⟩ := hk _ _ _ _ hs (hwf_new hw _ _)
    rw [hsz_new] at a2
    rw [hsl_new] at a3
    refine ⟨o, h', a1, by omega, by omega, a4, fun p e R s mi args below meth c H locs cells slots ls cx lr rp hl9 he hc1 hs1 => ?_⟩
    have hKn := cx.en.1.1 9 _ rfl
    obtain ⟨hS, hfc, -⟩ := cx.en.1.1 9 _ rfl
    refine W.newcK cx.ex cx.cb cx.ow (cx.ws _ hl) (cx.ws _ q862) (cx.ws _ q74) rfl hd0 (by omega) (by omega) hfc rp.1 fun H1 kC hkC e1 z1 o1 => ?_
    have rp1 : Rep G (hnew h (eO 9 [.int 0]) 7) s H1 := by
      refine rp.new (e' := eO 9 [.int 0]) (by rw [z1, rp.1]) (fun y hy => o1 y (by rw [← rp.1]; exact hy)) ?_
      rw [rp.1]
      exact ⟨_, rfl, (u_born (fun _ => .int) cx.ws (cls_ok 9 _ rfl).1 hKn hkC e1 (fun _ _ => (by decide +kernel : parseFieldDescriptor "I" = some .int))).to (fun k hk => by
        have hk : k < 1 := hk
        obtain rfl : k = 0 := by omega
        rfl)⟩
    refine lv_dup cx.ex cx.cb hd3 rfl ?_
    refine lv_aload_n cx.ex cx.cb hd4 hi (lr.get hb) ?_
    obtain ⟨q0, hq0⟩ := wsOf_get rp1 (hnew_old hw hgb) (fun f => by simp)
    refine hG cx rp1.ws hq0 hfs ?_
    have hM : Met (gl G) (mY M_X9_init) (ws_ (mY M_X9_init) (mB M_X9_init) (mL M_X9_init) (mR M_X9_init)) (rmO M_X9_init (hnew h (eO 9 [.int 0]) 7) (hset (hnew h (eO 9 [.int 0]) 7) (hsz h) (eO 9 [.int x]))) (fpre_ G (hsz h) x (hnew h (eO 9 [.int 0]) 7)) (QcO G (.inl none) (hset (hnew h (eO 9 [.int 0]) 7) (hsz h) (eO 9 [.int x]))) 0 0 (gA G) :=
      MetFree.mono (flt_met hw1 (hnew_at h _ 7)) (fun _ _ h => h) (fun _ _ _ _ _ h => h) (fun a s oc t _ hq => by
        rcases hq with hq | ⟨q, -, E, ce, Ls, hx, -⟩
        · exact hq
        · exact hx.elim)
    have hR := va_runI (below := below) (locs := locs) (e := e) (meth := meth) (cells := cells + 1) (slots := slots + 7) (H := H1) (b := hsz h) (As := [.int x]) (rest := [.ref (hsz h)]) (g := F0 mi (pc + 8) ls [.int x, .ref (hsz h), .ref (hsz h)]) cx.fix hM (cwI 1 cx.ws (lw_meth q900) rfl (by show hsz _ - hsz _ = 0; rw [hsz_set, Nat.sub_self]) (by show hsl _ - hsl _ = 0; rw [hsl_set, Nat.sub_self]) (cx.ws _ q74) (cx.ws _ h1) (cx.ws _ q899) rfl ⟨by decide +kernel, by decide +kernel, by decide +kernel⟩ (roomO (m' := M_X9_init) (by rw [cx.fr]; exact hF) (by rw [cx.lo]; exact hO) _ _))
      ⟨fun a U g mk ⟨q0, q1, q2, q3⟩ => ⟨q0, q1.warm (U := U.calling g mk a) (State.WarmedH.refl U), q2.moved (U := U.calling g mk a) (Vm.Alike.refl U.vm), q3⟩, fun U hU hW => ⟨rfl, cx.en.warm hW, by rw [hU]; exact rp1.moved hW.alike, by
        obtain ⟨k', hk', hke⟩ := hW.alike.2.2 _ _ hkC
        refine ⟨k', hk', ?_⟩
        rw [hU, e1, hke]
        rfl⟩⟩ rfl rfl lr.1 rfl (show 2 * 0 + (1 + 0) ≤ 8 by decide) hd8 ⟨by omega, by omega⟩
    intro T hT X
    obtain ⟨v, st₀, t, T', Ls, e0, X', hL, e1', e2, ⟨hq1, hq2⟩, st'⟩ := hR T hT X
    cases hq1
    rw [hset_new] at hq2
    have rp2 : Rep G (hnew h (eO 9 [.int x]) 7) s T'.heap := by
      rw [e1']
      exact hq2.moved (by rw [← e2]; exact X'.warmed.alike.symm)
    have hz := a5 p e R s mi args below meth c T'.heap (locs ++ Ls) (cells + 1 + 0) (slots + 7 + 0) ls cx lr rp2 (fun q hq => (List.mem_append.mp hq).elim (hl9 q) (hL q)) (by rw [hsz_new]; omega) (by rw [hsz_new]; omega) (by rw [hsl_new]; omega)
    rw [hsz_new, hsl_new, show cells + 1 + 0 + (hsz h' - (hsz h + 1)) = cells + (hsz h' - hsz h) by omega, show slots + 7 + 0 + (hsl h' - (hsl h + 7)) = slots + (hsl h' - hsl h) by omega] at hz
    obtain ⟨t2, c1, c2⟩ := hz T' rfl X'
    exact ⟨t2, st' t2 c1, c2⟩
  · exact hs.elim
