/-! BASE 5: stores, arrays, new cells, casts, statics -/
set_option maxRecDepth 100000
section OK5
variable {G : g_} {m : mt_} {pc : Nat}
theorem o_puti {cs : List (Nat × Nat)} {decl n d : String} {i : Nat} (hd : decode (mB m) pc = .ok (.putfield i, 3)) (hf : fdOf cs decl n d false) (hl : Cond.fieldLink (mY m).cls i decl n d ∈ lw_all) (hi : parseFieldDescriptor d = some .int) : SemOK G m pc (s_puti cs (pc + 3)) := by
  intro L st h Q k hs hk
  unfold s_puti at hs
  split at hs
  · next x a r =>
    obtain ⟨h1, hp, hs⟩ := hs
    exact put_core hf (fun cx hP hD hS he hc hin hty hnm hk hT hlen kk => va_put (ref := decl) (ty := .int) cx.ex cx.cb cx.ws hin _ hty hnm cx.ow cx.en.1 hP hD hS _ he hc _ hk (by rw [hT]; exact cx.ws _ hl) (by rw [hT]; exact fun _ h => h) (by rw [hT]) (by rw [hT]; exact hi) rfl rfl hlen hd fun H1 locs1 a1 _ a3 => kk H1 locs1 a1 a3) hp (hk _ _ _ _ hs)
  · exact hs.elim
theorem o_putiS {cs : List (Nat × Nat)} {decl ref n d : String} {i : Nat} (hd : decode (mB m) pc = .ok (.putfield i, 3)) (hf : fdOf cs decl n d false) (hl : Cond.fieldLink (mY m).cls i ref n d ∈ lw_all) (hsm : Cond.sameField ref decl n d ∈ lw_all) (hi : parseFieldDescriptor d = some .int) : SemOK G m pc (s_puti cs (pc + 3)) := by
  intro L st h Q k hs hk
  unfold s_puti at hs
  split at hs
  · next x a r =>
    obtain ⟨h1, hp, hs⟩ := hs
    exact put_core hf (fun cx hP hD hS he hc hin hty hnm hk hT hlen kk => va_put (ref := ref) (ty := .int) cx.ex cx.cb cx.ws hin _ hty hnm cx.ow cx.en.1 hP hD hS _ he hc _ hk (by rw [hT]; exact cx.ws _ hl) (by rw [hT]; exact u_same (cx.ws _ hsm)) (by rw [hT]) (by rw [hT]; exact hi) rfl rfl hlen hd fun H1 locs1 a1 _ a3 => kk H1 locs1 a1 a3) hp (hk _ _ _ _ hs)
  · exact hs.elim
theorem o_putiN {cs : List (Nat × Nat)} {decl n d host : String} {i : Nat} (hd : decode (mB m) pc = .ok (.putfield i, 3)) (hf : fdOf cs decl n d false) (hl : Cond.fieldLinkNest (mY m).cls i decl n d host ∈ lw_tbl) (hi : parseFieldDescriptor d = some .int) : SemOK G m pc (s_puti cs (pc + 3)) := by
  intro L st h Q k hs hk
  unfold s_puti at hs
  split at hs
  · next x a r =>
    obtain ⟨h1, hp, hs⟩ := hs
    exact put_core hf (fun cx hP hD hS he hc hin hty hnm hk hT hlen kk => va_putN (ref := decl) (host := host) (ty := .int) cx.ex cx.cb cx.ws hin _ hty hnm cx.ow cx.en.1 hP hD hS _ he hc _ hk (by rw [hT]; exact cx.en.use hl rfl) (by rw [hT]; exact fun _ h => h) (by rw [hT]) (by rw [hT]; exact hi) rfl rfl hlen hd fun H1 locs1 a1 _ a3 => kk H1 locs1 a1 a3) hp (hk _ _ _ _ hs)
  · exact hs.elim
theorem o_putiF {cs : List (Nat × Nat)} {decl n d : String} {i : Nat} (hd : decode (mB m) pc = .ok (.putfield i, 3)) (hf : fdOf cs decl n d true) (hl : Cond.fieldLink (mY m).cls i decl n d ∈ lw_all) (hi : parseFieldDescriptor d = some .int) (hin2 : (mY m).name = "<init>") (hdc : decl = (mY m).cls) : SemOK G m pc (s_puti cs (pc + 3)) := by
  intro L st h Q k hs hk
  unfold s_puti at hs
  split at hs
  · next x a r =>
    obtain ⟨h1, hp, hs⟩ := hs
    exact put_core hf (fun cx hP hD hS he hc hin hty hnm hk hT hlen kk => va_putF (ref := decl) (ty := .int) cx.ex cx.cb cx.ws hin _ hty hnm cx.ow cx.en.1 hP hD hS _ he hc _ hk (by rw [hT]; exact cx.ws _ hl) (by rw [hT]; exact fun _ h => h) (by rw [hT]) (cx.nm.trans hin2) (by rw [hT]; exact hdc) (by rw [hT]; exact hi) rfl rfl hlen hd fun H1 locs1 a1 _ a3 => kk H1 locs1 a1 a3) hp (hk _ _ _ _ hs)
  · exact hs.elim
theorem o_putz {cs : List (Nat × Nat)} {decl n d : String} {ty : FieldType} {i : Nat} (hd : decode (mB m) pc = .ok (.putfield i, 3)) (hf : fdOf cs decl n d false) (hl : Cond.fieldLink (mY m).cls i decl n d ∈ lw_all) (hi : parseFieldDescriptor d = some ty) : SemOK G m pc (s_putz ty cs (pc + 3)) := by
  intro L st h Q k hs hk
  unfold s_putz at hs
  split at hs
  · next x a r =>
    obtain ⟨⟨hn, hfit⟩, h1, hp, hs⟩ := hs
    exact put_core hf (fun cx hP hD hS he hc hin hty hnm hk hT hlen kk => va_put (ref := decl) (ty := ty) cx.ex cx.cb cx.ws hin _ hty hnm cx.ow cx.en.1 hP hD hS _ he hc _ hk (by rw [hT]; exact cx.ws _ hl) (by rw [hT]; exact fun _ h => h) (by rw [hT]) (by rw [hT]; exact hi) hn hfit hlen hd fun H1 locs1 a1 _ a3 => kk H1 locs1 a1 a3) hp (hk _ _ _ _ hs)
  · exact hs.elim
/-- a type of references -/
def rfT (ty : FieldType) : Prop := (∀ w, narrow ty (va_rf w) = va_rf w) ∧ ∀ w, fits ty (va_rf w) = true
theorem rfT_o (n : String) : rfT (.object n) := ⟨fun w => by cases w <;> rfl, fun w => by cases w <;> rfl⟩
theorem rfT_a (t : FieldType) : rfT (.array t) := ⟨fun w => by cases w <;> rfl, fun w => by cases w <;> rfl⟩
theorem o_putr {cs : List (Nat × Nat)} {decl n d : String} {ty : FieldType} {i : Nat} (hd : decode (mB m) pc = .ok (.putfield i, 3)) (hf : fdOf cs decl n d false) (hl : Cond.fieldLink (mY m).cls i decl n d ∈ lw_all) (hi : parseFieldDescriptor d = some ty) (ht : rfT ty) : SemOK G m pc (s_putr cs (pc + 3)) := by
  intro L st h Q k hs hk
  unfold s_putr at hs
  split at hs
  · next v a r =>
    obtain ⟨⟨w, rfl⟩, h1, hp, hs⟩ := rvk_of hs
    exact put_core hf (fun cx hP hD hS he hc hin hty hnm hk hT hlen kk => va_put (ref := decl) (ty := ty) cx.ex cx.cb cx.ws hin _ hty hnm cx.ow cx.en.1 hP hD hS _ he hc _ hk (by rw [hT]; exact cx.ws _ hl) (by rw [hT]; exact fun _ h => h) (by rw [hT]) (by rw [hT]; exact hi) (ht.1 w) (ht.2 w) hlen hd fun H1 locs1 a1 _ a3 => kk H1 locs1 a1 a3) hp (hk _ _ _ _ hs)
  · exact hs.elim
theorem o_putrN {cs : List (Nat × Nat)} {decl n d host : String} {ty : FieldType} {i : Nat} (hd : decode (mB m) pc = .ok (.putfield i, 3)) (hf : fdOf cs decl n d false) (hl : Cond.fieldLinkNest (mY m).cls i decl n d host ∈ lw_tbl) (hi : parseFieldDescriptor d = some ty) (ht : rfT ty) : SemOK G m pc (s_putr cs (pc + 3)) := by
  intro L st h Q k hs hk
  unfold s_putr at hs
  split at hs
  · next v a r =>
    obtain ⟨⟨w, rfl⟩, h1, hp, hs⟩ := rvk_of hs
    exact put_core hf (fun cx hP hD hS he hc hin hty hnm hk hT hlen kk => va_putN (ref := decl) (host := host) (ty := ty) cx.ex cx.cb cx.ws hin _ hty hnm cx.ow cx.en.1 hP hD hS _ he hc _ hk (by rw [hT]; exact cx.en.use hl rfl) (by rw [hT]; exact fun _ h => h) (by rw [hT]) (by rw [hT]; exact hi) (ht.1 w) (ht.2 w) hlen hd fun H1 locs1 a1 _ a3 => kk H1 locs1 a1 a3) hp (hk _ _ _ _ hs)
  · exact hs.elim
theorem o_putrF {cs : List (Nat × Nat)} {decl n d : String} {ty : FieldType} {i : Nat} (hd : decode (mB m) pc = .ok (.putfield i, 3)) (hf : fdOf cs decl n d true) (hl : Cond.fieldLink (mY m).cls i decl n d ∈ lw_all) (hi : parseFieldDescriptor d = some ty) (ht : rfT ty) (hin2 : (mY m).name = "<init>") (hdc : decl = (mY m).cls) : SemOK G m pc (s_putr cs (pc + 3)) := by
  intro L st h Q k hs hk
  unfold s_putr at hs
  split at hs
  · next v a r =>
    obtain ⟨⟨w, rfl⟩, h1, hp, hs⟩ := rvk_of hs
    exact put_core hf (fun cx hP hD hS he hc hin hty hnm hk hT hlen kk => va_putF (ref := decl) (ty := ty) cx.ex cx.cb cx.ws hin _ hty hnm cx.ow cx.en.1 hP hD hS _ he hc _ hk (by rw [hT]; exact cx.ws _ hl) (by rw [hT]; exact fun _ h => h) (by rw [hT]) (cx.nm.trans hin2) (by rw [hT]; exact hdc) (by rw [hT]; exact hi) (ht.1 w) (ht.2 w) hlen hd fun H1 locs1 a1 _ a3 => kk H1 locs1 a1 a3) hp (hk _ _ _ _ hs)
  · exact hs.elim
theorem o_new {ci n i : Nat} {fs : List Value} {q : vw_C} (hd : decode (mB m) pc = .ok (.new i, 3)) (hc : cls_[ci]? = some q) (hn : q.2.2 = n) (hl : Cond.classLink (mY m).cls i q.1 ∈ lw_all) (hi : Cond.instantiable q.1 n ∈ lw_all) (hini : Cond.initialized q.1 ∈ lw_all)
    (ty : Nat → FieldType) (hty : ∀ k, k < n → parseFieldDescriptor (q.2.1 k).2.2.1 = some (ty k)) (hfs : ∀ j, j < n → defaultValue (ty j) = vp_V fs j) : SemOK G m pc (s_new ci fs n (pc + 3)) := by
  subst hn
  intro L st h Q k hs hk
  refine Go_.make (n := q.2.2) (fun hw => hwf_new hw _ _) rfl rfl (fun {p e R s mi args below meth c H locs cells slots ls Qf} cx _ rp h1 h2 kk => ?_) (hk _ _ _ _ hs)
  have hKn := cx.en.1.1 ci q hc
  refine W.newcK cx.ex cx.cb cx.ow (cx.ws _ hl) (cx.ws _ hi) (cx.ws _ hini) rfl hd h1 h2 hKn.2.1 rp.1 fun H1 kC hkC e1 z1 o1 => ?_
  have r1 : Rep G (hnew h (eO ci fs) q.2.2) s H1 := by
    refine rp.new (e' := eO ci fs) (by rw [z1, rp.1]) (fun x hx => o1 x (by rw [← rp.1]; exact hx)) ?_
    rw [rp.1]
    exact ⟨_, hc, (u_born ty cx.ws (cls_ok ci q hc).1 hKn hkC e1 hty).to hfs⟩
  exact kk H1 r1
theorem o_newi {k0 : ArrayType} (hd : decode (mB m) pc = .ok (.newarray k0, 2)) (hk0 : newarray.typeOf k0 = .int) (hw : Cond.arrayClass .int ∈ lw_all) : SemOK G m pc (s_newi (pc + 2)) := by
  intro L st h Q k hs hk
  unfold s_newi at hs
  split at hs
  · next x r =>
    obtain ⟨n, rfl, hn, hs⟩ := hs
    refine Go_.make (n := n) (fun hw => hwf_new hw _ _) rfl rfl (fun {p e R s mi args below meth c H locs cells slots ls Qf} cx _ rp h1 h2 kk => ?_) (hk _ _ _ _ hs)
    refine va_newaK (N := n) cx.ex cx.cb (by rw [hk0]; exact cx.ws _ hw) rfl hd rfl (nI_pos (by omega)) (nI_clamp (by omega)) (by rw [hk0]; show n * 4 ≤ _; omega) h1 h2 rp.1 fun H1 cA e1 z1 o1 hAr hNm => ?_
    have hcA : cA = gI G := by
      rw [hk0] at hNm
      exact Option.some.inj (hNm.symm.trans (cx.en.1.2 0 _ rfl).2)
    subst hcA
    refine kk H1 (rp.new (e' := eI n (fun _ => 0)) (by rw [z1, rp.1]) (fun x hx => o1 x (by rw [← rp.1]; exact hx)) ?_)
    rw [rp.1]
    rw [hk0] at e1
    exact e1
  · exact hs.elim
theorem o_newb {k0 : ArrayType} (hd : decode (mB m) pc = .ok (.newarray k0, 2)) (hk0 : newarray.typeOf k0 = .byte) (hw : Cond.arrayClass .byte ∈ lw_all) : SemOK G m pc (s_newb (pc + 2)) := by
  intro L st h Q k hs hk
  unfold s_newb at hs
  split at hs
  · next x r =>
    obtain ⟨n, rfl, hn, hs⟩ := hs
    refine Go_.make (n := n) (fun hw => hwf_new hw _ _) rfl rfl (fun {p e R s mi args below meth c H locs cells slots ls Qf} cx _ rp h1 h2 kk => ?_) (hk _ _ _ _ hs)
    refine va_newaK (N := n) cx.ex cx.cb (by rw [hk0]; exact cx.ws _ hw) rfl hd rfl (nI_pos (by omega)) (nI_clamp (by omega)) (by rw [hk0]; show n * 1 ≤ _; omega) h1 h2 rp.1 fun H1 cA e1 z1 o1 hAr hNm => ?_
    have hcA : cA = gB G := by
      rw [hk0] at hNm
      exact Option.some.inj (hNm.symm.trans (cx.en.1.2 1 _ rfl).2)
    subst hcA
    refine kk H1 (rp.new (e' := eB n (fun _ => 0)) (by rw [z1, rp.1]) (fun x hx => o1 x (by rw [← rp.1]; exact hx)) ?_)
    rw [rp.1]
    rw [hk0] at e1
    exact e1
  · exact hs.elim
theorem o_newr {i : Nat} (hd : decode (mB m) pc = .ok (.anewarray i, 3)) (hl : Cond.classLink (mY m).cls i "java/lang/Object" ∈ lw_all) : SemOK G m pc (s_newr (pc + 3)) := by
  intro L st h Q k hs hk
  unfold s_newr at hs
  split at hs
  · next x r =>
    obtain ⟨n, rfl, hn, hs⟩ := hs
    refine Go_.make (n := n) (fun hw => hwf_new hw _ _) rfl rfl (fun {p e R s mi args below meth c H locs cells slots ls Qf} cx _ rp h1 h2 kk => ?_) (hk _ _ _ _ hs)
    have hN : (nI n).toNatClampNeg = n := nI_clamp (by omega)
    refine W.anew cx.ex cx.cb cx.ow (cx.ws _ hl) (va_AO.use cx.en.2.2.1) rfl hd rfl (nI_pos (by omega)) (by rw [hN]; omega) h1 (by rw [hN]; exact h2) fun cA kA comp f1 f2 f3 f4 => ?_
    rw [hN]
    generalize hH1 : H.push ({ cls := cA, slots := Array.replicate n .null, vm := .none } : Cell) = H1
    have z1 : H1.size = H.size + 1 := by rw [← hH1, Array.size_push]
    have e1 : H1[H.size]? = some (arrV cA n (fun _ => .null)) := by rw [← hH1, Array.getElem?_push_size, ← arrV_new]
    have o1 : ∀ q : Nat, q < H.size → H1[q]? = H[q]? := fun q hq => by rw [← hH1, Array.getElem?_push, if_neg (Nat.ne_of_lt hq)]
    have hcA : cA = gO G := by
      obtain ⟨kA', comp', r1, r2, r3, r4⟩ := (cx.en.1.2 2 _ rfl).2
      exact Option.some.inj (f1.symm.trans r4)
    subst hcA
    rw [rp.1]
    exact kk H1 (rp.new (e' := eR n (fun _ => none)) z1 o1 e1)
  · exact hs.elim
theorem o_iald (hd : decode (mB m) pc = .ok (.iaload, 1)) : SemOK G m pc (s_iald (pc + 1)) := by
  intro L st h Q k hs hk
  unfold s_iald at hs
  split at hs
  · next i a r =>
    obtain ⟨n, f, j, hg, hj, hs⟩ := hs
    obtain ⟨hin, hc, -⟩ := ix_in hj
    refine Go_.pure0 (fun cx _ rp kk => ?_) (hk _ _ _ _ hs)
    obtain ⟨q0, hq0⟩ := wsOf_get rp hg (fun f => by simp)
    exact va_iald cx.ex cx.cb cx.en.1 rp.ws q0 0 hq0 rfl hin hd (by rw [hc]; exact kk)
  · exact hs.elim
theorem o_bald (hd : decode (mB m) pc = .ok (.baload, 1)) : SemOK G m pc (s_bald (pc + 1)) := by
  intro L st h Q k hs hk
  unfold s_bald at hs
  split at hs
  · next i a r =>
    obtain ⟨n, f, j, hg, hj, hs⟩ := hs
    obtain ⟨hin, hc, -⟩ := ix_in hj
    refine Go_.pure0 (fun cx _ rp kk => ?_) (hk _ _ _ _ hs)
    obtain ⟨q0, hq0⟩ := wsOf_get rp hg (fun f => by simp)
    exact va_bald cx.ex cx.cb cx.en.1 rp.ws q0 1 hq0 rfl hin hd (by rw [hc]; exact kk)
  · exact hs.elim
theorem o_aald (hd : decode (mB m) pc = .ok (.aaload, 1)) : SemOK G m pc (s_aald (pc + 1)) := by
  intro L st h Q k hs hk
  unfold s_aald at hs
  split at hs
  · next i a r =>
    obtain ⟨n, f, j, hg, hj, hs⟩ := hs
    obtain ⟨hin, hc, hjn⟩ := ix_in hj
    have key : Go_ G m (pc + 1) L (va_rf (f j) :: r) h Q := by
      rcases hs with ⟨e, hs⟩ | ⟨b, e, hs⟩
      · rw [e]; exact hk _ _ _ _ hs
      · rw [e]; exact hk _ _ _ _ hs
    refine Go_.pure0 (fun cx _ rp kk => ?_) key
    obtain ⟨q0, hq0⟩ := wsOf_get rp hg (fun f' e => by have : n = 0 := by (injection e with e; injection e with e; exact congrArg Prod.fst e)
                                                       omega)
    exact va_aldq cx.ex cx.cb cx.en.1 rp.ws q0 2 hq0 rfl hin hd (by rw [hc]; exact kk)
  · exact hs.elim
theorem o_iast (hd : decode (mB m) pc = .ok (.iastore, 1)) : SemOK G m pc (s_iast (pc + 1)) := by
  intro L st h Q k hs hk
  unfold s_iast at hs
  split at hs
  · next x i a r =>
    obtain ⟨n, f, j, hg, hj, hs⟩ := hs
    obtain ⟨hin, hc, -⟩ := ix_in hj
    refine Go_.write (fun hw => hwf_set hw _ (hlt hw hg)) rfl rfl (fun cx _ rp hl he kk => ?_) (hk _ _ _ _ hs)
    obtain ⟨q0, hq0⟩ := wsOf_get rp hg (fun f => by simp)
    exact va_iast cx.ex cx.cb cx.en.1 rp.ws rp.wd (S_rf hl) q0 0 hq0 rfl hin hd fun H1 locs1 hP1 _ hS1 => W_sz fun hz => kk H1 locs1 (rp.back (e' := eI n (upd f j x)) hq0 (by rw [hc] at hP1; exact hP1) hS1 (by rw [rp.1, he]; exact hz)) hS1.2.2
  · exact hs.elim
theorem o_bast (hd : decode (mB m) pc = .ok (.bastore, 1)) : SemOK G m pc (s_bast (pc + 1)) := by
  intro L st h Q k hs hk
  unfold s_bast at hs
  split at hs
  · next x i a r =>
    obtain ⟨n, f, j, hg, hj, hs⟩ := hs
    obtain ⟨hin, hc, -⟩ := ix_in hj
    refine Go_.write (fun hw => hwf_set hw _ (hlt hw hg)) rfl rfl (fun cx _ rp hl he kk => ?_) (hk _ _ _ _ hs)
    obtain ⟨q0, hq0⟩ := wsOf_get rp hg (fun f => by simp)
    exact va_bast cx.ex cx.cb cx.en.1 rp.ws rp.wd (S_rf hl) q0 1 hq0 rfl hin hd fun H1 locs1 hP1 _ hS1 => W_sz fun hz => kk H1 locs1 (rp.back (e' := eB n (upd f j x.toInt8.toInt32)) hq0 (by rw [hc, vp_nar_byte] at hP1; exact hP1) hS1 (by rw [rp.1, he]; exact hz)) hS1.2.2
  · exact hs.elim
theorem obk_any {s : State} {H : Heap} {h : hp_} (en : En G s) (rp : Rep G h s H) {b : Nat} (hb : obk h b) : va_Any "java/lang/Object" s H b := by
  rcases hb with ⟨c, fs, hg, hc⟩ | ⟨n, f, hg⟩
  · obtain ⟨-, r, hr, cell, e1, e2, e3, -⟩ := rp.at hg (fun f => by simp)
    obtain ⟨hfc, kC, hkC, -⟩ := (en.1.1 c r hr).2
    refine ⟨cell, e1, by rw [e3]; rfl, ⟨kC, by rw [e2]; exact hkC⟩, fun comp hcomp => ?_⟩
    rw [e2]
    exact vb_asgC (C := r.1) (hca := en.2.1 _ (cls_ok c r hr).2.2.2 rfl) comp _ hcomp hfc
  · obtain ⟨-, hat⟩ := rp.at hg (fun f => by simp)
    have hat : H[b]? = some (vp_cell (gI G) (n, .inl f)) := hat
    obtain ⟨-, k1, hk1, -⟩ := (en.1.2 0 _ rfl).1 n (fun j => .int (f j))
    refine ⟨_, hat, rfl, ⟨k1, hk1⟩, fun comp hcomp => ?_⟩
    exact vb_asgC (C := "[I") (hca := en.2.1 _ (List.mem_of_getElem? (i := 1492) rfl) rfl) comp _ hcomp (en.1.2 0 _ rfl).2
theorem o_aast (hd : decode (mB m) pc = .ok (.aastore, 1)) : SemOK G m pc (s_aast (pc + 1)) := by
  intro L st h Q k hs hk
  unfold s_aast at hs
  split at hs
  · next v i a r =>
    obtain ⟨⟨w, rfl⟩, hob, n, f, j, hg, hj, hs⟩ := rvk_of hs
    obtain ⟨hin, hc, hjn⟩ := ix_in hj
    refine Go_.write (fun hw => hwf_set hw _ (hlt hw hg)) rfl rfl (fun cx _ rp hl he kk => ?_) (hk _ _ _ _ hs)
    obtain ⟨q0, hq0⟩ := wsOf_get rp hg (fun f' e => by have : n = 0 := by (injection e with e; injection e with e; exact congrArg Prod.fst e)
                                                       omega)
    rw [asO_rf] at kk
    cases w with
    | none => exact va_astqN cx.ex cx.cb cx.en.1 rp.ws rp.wd (S_rf hl) q0 2 hq0 rfl hin hd fun H1 locs1 hP1 _ hS1 => W_sz fun hz => kk H1 locs1 (rp.back (e' := eR n (va_up f j none)) hq0 (by rw [hc] at hP1; exact hP1) hS1 (by rw [rp.1, he]; exact hz)) hS1.2.2
    | some b => exact va_astqM cx.ex cx.cb cx.en.1 rp.ws rp.wd (S_rf hl) q0 2 hq0 rfl (obk_any cx.en rp (hob b rfl)) hin hd fun H1 locs1 hP1 _ hS1 => W_sz fun hz => kk H1 locs1 (rp.back (e' := eR n (va_up f j (some b))) hq0 (by rw [hc] at hP1; exact hP1) hS1 (by rw [rp.1, he]; exact hz)) hS1.2.2
  · exact hs.elim
theorem o_alen (hd : decode (mB m) pc = .ok (.arraylength, 1)) : SemOK G m pc (s_alen (pc + 1)) := by
  intro L st h Q k hs hk
  unfold s_alen at hs
  split at hs
  · next a r =>
    obtain ⟨n, hn, hs⟩ := hs
    refine Go_.pure0 (fun cx _ rp kk => ?_) (hk _ _ _ _ hs)
    unfold alen_ at hn
    split at hn
    · next b n' f hg =>
      cases hn
      obtain ⟨q0, hq0⟩ := wsOf_get rp hg (fun f => by simp)
      cases b
      · exact va_alen cx.ex cx.cb cx.en.1 rp.ws q0 0 hq0 rfl rfl hd kk
      · exact va_alen cx.ex cx.cb cx.en.1 rp.ws q0 1 hq0 rfl rfl hd kk
    · next n' f hg =>
      cases hn
      rcases rp.2.2.2.1 a _ hg with ⟨h1, h2⟩ | ⟨rfl, f', h2⟩
      · obtain ⟨q0, hq0⟩ := wsOf_mk h1 (rp.lt hg) hg
        exact va_alen cx.ex cx.cb cx.en.1 rp.ws q0 2 hq0 rfl rfl hd kk
      · have hn0 : n = 0 := by (injection h2 with e; injection e with e; exact congrArg Prod.fst e)
        subst hn0
        obtain ⟨cell, c1, c2, c3⟩ := rp.2.2.2.2.2.2.2.2.2.2.2.2.2
        exact W.alen (n := nI 0) cx.ex cx.cb c1 c2 (by rw [c3.1]; rfl) rfl rfl hd kk
    · cases hn
  · exact hs.elim
theorem recv_at {s : State} {H : Heap} {h : hp_} (en : En G s) (rp : Rep G h s H) {a c : Nat} (hc : cls_at h a = some c) {q : vw_C} (hq : cls_[c]? = some q) : ∃ cell : Cell, H[a]? = some cell ∧ cell.vm.isStatics = false ∧ s.vm.findClass q.1 = some cell.cls := by
  obtain ⟨fs, hg⟩ := of_cls_at hc
  obtain ⟨-, r, hr, cell, e1, e2, e3, -⟩ := rp.at hg (fun f => by simp)
  cases Option.some.inj (hq.symm.trans hr)
  exact ⟨cell, e1, by rw [e3]; rfl, by rw [e2]; exact (en.1.1 c q hq).2.1⟩
theorem o_castO {cs : List Nat} {nm : String} {i : Nat} (hd : decode (mB m) pc = .ok (.checkcast i, 3)) (hl : Cond.classLink (mY m).cls i nm ∈ lw_all) (hcs : ∀ c ∈ cs, ∃ q, cls_[c]? = some q ∧ (q.1 = nm ∨ Cond.castable q.1 nm ∈ lw_tbl)) : SemOK G m pc (s_castO cs (pc + 3)) := by
  intro L st h Q k hs hk
  unfold s_castO at hs
  split at hs
  · next a r =>
    obtain ⟨c, hc, hm, hs⟩ := hs
    obtain ⟨q, hq, hor⟩ := hcs c hm
    refine Go_.pure0 (fun cx _ rp kk => ?_) (hk _ _ _ _ hs)
    rcases hor with h1 | h1
    · subst h1
      exact va_castS cx.ex cx.cb cx.ow (cx.ws _ hl) (cx.en.1.1 c q hq).2 (recv_at cx.en rp hc hq) hd kk
    · exact va_castY cx.ex cx.cb cx.ow (cx.ws _ hl) (cx.en.2.1 _ h1 rfl) (recv_at cx.en rp hc hq) hd kk
  · exact hs.elim
theorem o_castI {i : Nat} (hd : decode (mB m) pc = .ok (.checkcast i, 3)) (hl : Cond.classLink (mY m).cls i "[I" ∈ lw_all) : SemOK G m pc (s_castI (pc + 3)) := by
  intro L st h Q k hs hk
  unfold s_castI at hs
  split at hs
  · next a r =>
    obtain ⟨n, f, hg, hs⟩ := hs
    refine Go_.pure0 (fun cx _ rp kk => ?_) (hk _ _ _ _ hs)
    obtain ⟨q0, hq0⟩ := wsOf_get rp hg (fun f => by simp)
    exact va_castA cx.ex cx.cb cx.ow (cx.ws _ hl) rp.ws q0 hq0 (cx.en.1.2 0 _ rfl).2 hd kk
  · exact hs.elim
theorem o_castR {i : Nat} (hd : decode (mB m) pc = .ok (.checkcast i, 3)) (hl : Cond.classLink (mY m).cls i "[Ljava/lang/Object;" ∈ lw_all) : SemOK G m pc (s_castR (pc + 3)) := by
  intro L st h Q k hs hk
  unfold s_castR at hs
  split at hs
  · next a r =>
    obtain ⟨n, f, hg, hn, hs⟩ := hs
    refine Go_.pure0 (fun cx _ rp kk => ?_) (hk _ _ _ _ hs)
    obtain ⟨q0, hq0⟩ := wsOf_get rp hg (fun f' e => by have : n = 0 := by (injection e with e; injection e with e; exact congrArg Prod.fst e)
                                                       omega)
    obtain ⟨kA', comp', r1, r2, r3, r4⟩ := (cx.en.1.2 2 _ rfl).2
    exact va_castA cx.ex cx.cb cx.ow (cx.ws _ hl) rp.ws q0 hq0 r4 hd kk
  · exact hs.elim
/-- a static that nobody writes -/
theorem o_gets {C n d : String} {v : Value} {i : Nat} (hd : decode (mB m) pc = .ok (.getstatic i, 3)) (hl : Cond.fieldLink (mY m).cls i C n d ∈ lw_all) (hz : ∀ (U : State) (H : Heap), Zs G U H → va_Z C n d v (gA G) U H) : SemOK G m pc (s_v v (pc + 3)) := by
  intro L st h Q k hs hk
  refine Go_.pure0 (fun cx _ rp kk => ?_) (hk _ _ _ _ hs)
  obtain ⟨cf, kf, fi, f, a, cell, h1, h2, h3, h4, h5, h6, h7, h8⟩ := hz _ _ rp.2.2.2.2
  exact W.gets cx.ex cx.cb cx.ow (cx.ws _ hl) h1 h2 h3 h4 h5 (fun e => by rw [e] at h6; cases h6) h7 rfl hd kk
end OK5
