/-! CONTRACTS over the layer, their start, their ends, calls -/
set_option maxRecDepth 100000
/-- a contract's start: the arguments, the blocks of its world, all that stays -/
def mPc (G : mGG) (av : List Value) (Bc : List va_W) (sz : Nat) : Array Value → State → Prop := va_Pc av (fun U => U.heap.size = sz ∧ va_P (gD G) mC Bc.flatten U.heap ∧ KG G U ∧ va_D (mOld G) Bc.flatten)
/-- its end: the blocks of the new world -/
def mB {S : Type} (G : mGG) (A : Nat → Prop) (wo : S → List va_W) : S → State → Prop := fun u t => va_P (gD G) mC (wo u).flatten t.heap ∧ va_D A (wo u).flatten
def mBr {S : Type} (G : mGG) (A : Nat → Prop) (wo : S → Nat → List va_W) : S → Nat → State → Prop := fun u a t => va_P (gD G) mC (wo u a).flatten t.heap ∧ va_D A (wo u a).flatten
def Cg (G : mGG) (l : Launch) (y : MethodName) (ws : List Cond) (rm : Room) (av : List Value) (Bc : List va_W) (Qf : (Nat → Prop) → Array Value → State → Outcome → State → Prop) : Prop := ∀ sz : Nat, Met l y ws rm (mPc G av Bc sz) (Qf (va_A Bc.flatten sz)) rm.cells rm.slots (va_A Bc.flatten sz)
abbrev Qi {S : Type} (G : mGG) (post : Int32 → S → Prop) (wo : S → List va_W) : (Nat → Prop) → Array Value → State → Outcome → State → Prop := fun A => va_Qi post (mB G A wo) A
abbrev Ql {S : Type} (G : mGG) (post : Int64 → S → Prop) (wo : S → List va_W) : (Nat → Prop) → Array Value → State → Outcome → State → Prop := fun A => va_Ql post (mB G A wo) A
abbrev Qv {S : Type} (G : mGG) (post : S → Prop) (wo : S → List va_W) : (Nat → Prop) → Array Value → State → Outcome → State → Prop := fun A => va_Qv post (mB G A wo) A
abbrev Qr {S : Type} (G : mGG) (post : S → Prop) (wo : S → Nat → List va_W) : (Nat → Prop) → Array Value → State → Outcome → State → Prop := fun A => va_Qr post (mBr G A wo) A
abbrev Qq {S : Type} (G : mGG) (post : Option Nat → S → Prop) (wo : S → List va_W) : (Nat → Prop) → Array Value → State → Outcome → State → Prop := fun A => va_Qq post (mB G A wo) A
theorem mPc_blind (G : mGG) (av : List Value) (Bc : List va_W) (sz : Nat) : FrameBlind (mPc G av Bc sz) := fun a U g mk q => by
  obtain ⟨q0, q1, qP, qK, qD⟩ := q
  exact ⟨q0, q1, qP, qK.same (s := U) (U := U.calling g mk a) rfl rfl, qD⟩
theorem Cg.intro {G : mGG} {l : Launch} {y : MethodName} {ws : List Cond} {rm : Room} {av : List Value} {Bc : List va_W} {Qf : (Nat → Prop) → Array Value → State → Outcome → State → Prop} {own : String} {cc : ByteArray} {maxL : Nat} {ret : Option FieldType} (hy : plainName y.cls = true) (hcls : y.cls = own) (hw : ws = Cond.code y cc maxL ret :: lw_all) (hlen : (lg_sl av).length ≤ maxL)
    (body : ∀ (p : Program) (e : Env) (s : State) (m : MethodId) (ag : Array Value) (below : List Frame) (meth : Method) (c : Code) (A : Nat → Prop) (ls : Array Slot) (Q : State → Prop), Cx G p s m ag c cc own maxL A → meth.sig.returnType = ret → meth.locks = false → meth.name = y.name → Sw G A s.heap Bc s.heap [] → lv_has ls maxL (lv_args 0 av) → MQ below (Qf A) ag s rm.cells rm.slots A = Q → W p l e rm s m ag below meth c s.heap [] 0 0 Q (F0 m 0 ls [])) : Cg G l y ws rm av Bc Qf := by
  intro sz
  refine Met.ofW (cc := cc) (maxL := maxL) (ret := ret) hy hw ?_
  intro p e s m args below meth c s₁ B hml hv
  obtain ⟨rfl, hsz, hP, hK, hD0⟩ := hv
  subst hsz
  have hts := atoms_spec (ws := ws) B.pre
  have hl := lv_entry av (n := maxL) hlen
  rw [lg_entry_eq]
  generalize (lg_sl av ++ List.replicate (maxL - (lg_sl av).length) Slot.unset).toArray = ls at hl ⊢
  refine body p e s m _ below meth c _ ls _ ⟨B.exec, B.bytes, hml, by rw [← hcls]; exact findClass_of_methodNamed B.named, fun w h => hts w (by rw [hw]; exact List.mem_cons_of_mem _ h), hK, fun q h => Or.inr h, fun q h => ?_⟩ B.returns B.notSynchronized (name_of_methodNamed B.named B.method).1 ⟨hP, hD0.self, va_S.rf⟩ hl rfl
  rcases h with ⟨k, e, h⟩ | h
  · exact hD0.2 k _ h
  · exact Nat.le_trans hK.2.1 h
section ME
variable {G : mGG} {p : Program} {l : Launch} {e : Env} {R : Room} {s : State} {m : MethodId} {ag : Array Value} {below : List Frame} {meth : Method} {c : Code} {H : Heap} {locs : List Loc} {cells slots : Nat} {Q : State → Prop}
variable {cc : ByteArray} {own : String} {nL pc : Nat} {ls : Array Slot} {rest st0 : List Value} {A : Nat → Prop} {Bs Bc Br : List va_W} {a mc ms : Nat}
theorem m_iret {S0 : Type} {post : Int32 → S0 → Prop} {wo : S0 → List va_W} (X : Cx G p s m ag c cc own nL A) (hr : meth.sig.returnType = some .int) (hlk : meth.locks = false) (hQ : MQ below (va_Qi post (mB G A wo) A) ag s mc ms A = Q) (S : Sw G A s.heap Bs H locs) {v : Int32} (u : S0) (hp : post v u) (is isD : List Nat) (hpm : (is ++ isD).isPerm (List.range Bs.length) = true) (h1 : pk Bs is = wo u) (hc : cells ≤ mc) (hs : slots ≤ ms) (hdg : decode cc pc = .ok (.ireturn, 1)) : W p l e R s m ag below meth c H locs cells slots Q (F0 m pc ls [.int v]) := by
  subst hQ
  have S1 := S.pick is isD hpm h1
  refine W.widen hc hs ?_
  exact W.iret X.1 X.2.1 hr (fun t ht hW => ⟨⟨v, u, rfl, hp, by rw [ht]; exact S1.1, S1.2.1⟩, S.2.2.F ht⟩) S.2.2.2.2 hdg hlk
theorem m_zret {S0 : Type} {post : Int32 → S0 → Prop} {wo : S0 → List va_W} {ty : FieldType} (X : Cx G p s m ag c cc own nL A) (hr : meth.sig.returnType = some ty) (hlk : meth.locks = false) (hQ : MQ below (va_Qi post (mB G A wo) A) ag s mc ms A = Q) (S : Sw G A s.heap Bs H locs) {v : Int32} (hn : narrow ty (.int v) = .int v) (u : S0) (hp : post v u) (is isD : List Nat) (hpm : (is ++ isD).isPerm (List.range Bs.length) = true) (h1 : pk Bs is = wo u) (hc : cells ≤ mc) (hs : slots ≤ ms) (hdg : decode cc pc = .ok (.ireturn, 1)) : W p l e R s m ag below meth c H locs cells slots Q (F0 m pc ls [.int v]) := by
  subst hQ
  have S1 := S.pick is isD hpm h1
  refine W.widen hc hs ?_
  exact W.zret X.1 X.2.1 hr hn (fun t ht hW => ⟨⟨v, u, rfl, hp, by rw [ht]; exact S1.1, S1.2.1⟩, S.2.2.F ht⟩) S.2.2.2.2 hdg hlk
theorem m_lret {S0 : Type} {post : Int64 → S0 → Prop} {wo : S0 → List va_W} (X : Cx G p s m ag c cc own nL A) (hr : meth.sig.returnType = some .long) (hlk : meth.locks = false) (hQ : MQ below (va_Ql post (mB G A wo) A) ag s mc ms A = Q) (S : Sw G A s.heap Bs H locs) {v : Int64} (u : S0) (hp : post v u) (is isD : List Nat) (hpm : (is ++ isD).isPerm (List.range Bs.length) = true) (h1 : pk Bs is = wo u) (hc : cells ≤ mc) (hs : slots ≤ ms) (hdg : decode cc pc = .ok (.lreturn, 1)) : W p l e R s m ag below meth c H locs cells slots Q (F0 m pc ls [.long v]) := by
  subst hQ
  have S1 := S.pick is isD hpm h1
  refine W.widen hc hs ?_
  exact W.lret X.1 X.2.1 hr (fun t ht hW => ⟨⟨v, u, rfl, hp, by rw [ht]; exact S1.1, S1.2.1⟩, S.2.2.F ht⟩) S.2.2.2.2 hdg hlk
theorem m_vret {S0 : Type} {post : S0 → Prop} {wo : S0 → List va_W} (X : Cx G p s m ag c cc own nL A) (hr : meth.sig.returnType = none) (hlk : meth.locks = false) (hQ : MQ below (va_Qv post (mB G A wo) A) ag s mc ms A = Q) (S : Sw G A s.heap Bs H locs) (u : S0) (hp : post u) (is isD : List Nat) (hpm : (is ++ isD).isPerm (List.range Bs.length) = true) (h1 : pk Bs is = wo u) (hc : cells ≤ mc) (hs : slots ≤ ms) (hdg : decode cc pc = .ok (.return_, 1)) : W p l e R s m ag below meth c H locs cells slots Q (F0 m pc ls []) := by
  subst hQ
  have S1 := S.pick is isD hpm h1
  refine W.widen hc hs ?_
  exact W.vret X.1 X.2.1 hr (fun t ht hW => ⟨⟨u, rfl, hp, by rw [ht]; exact S1.1, S1.2.1⟩, S.2.2.F ht⟩) S.2.2.2.2 hdg hlk
theorem m_rret {S0 : Type} {post : S0 → Prop} {wo : S0 → Nat → List va_W} {rt : FieldType} (X : Cx G p s m ag c cc own nL A) (hr : meth.sig.returnType = some rt) (hrt : (∃ n, rt = .object n) ∨ ∃ t, rt = .array t) (hlk : meth.locks = false) (hQ : MQ below (va_Qr post (mBr G A wo) A) ag s mc ms A = Q) (S : Sw G A s.heap Bs H locs) (u : S0) (hp : post u) (is isD : List Nat) (hpm : (is ++ isD).isPerm (List.range Bs.length) = true) (h1 : pk Bs is = wo u a) (hc : cells ≤ mc) (hs : slots ≤ ms) (hdg : decode cc pc = .ok (.areturn, 1)) : W p l e R s m ag below meth c H locs cells slots Q (F0 m pc ls [.ref a]) := by
  subst hQ
  have S1 := S.pick is isD hpm h1
  refine W.widen hc hs ?_
  exact W.aret X.1 X.2.1 hr hrt (Or.inr ⟨a, rfl⟩) (fun t ht hW => ⟨⟨u, a, rfl, hp, by rw [ht]; exact S1.1, S1.2.1⟩, S.2.2.F ht⟩) S.2.2.2.2 hdg hlk
theorem m_qret {S0 : Type} {post : Option Nat → S0 → Prop} {wo : S0 → List va_W} {rt : FieldType} (X : Cx G p s m ag c cc own nL A) (hr : meth.sig.returnType = some rt) (hrt : (∃ n, rt = .object n) ∨ ∃ t, rt = .array t) (hlk : meth.locks = false) (hQ : MQ below (va_Qq post (mB G A wo) A) ag s mc ms A = Q) (S : Sw G A s.heap Bs H locs) {v : Value} (r : Option Nat) (hv : v = va_rf r) (u : S0) (hp : post r u) (is isD : List Nat) (hpm : (is ++ isD).isPerm (List.range Bs.length) = true) (h1 : pk Bs is = wo u) (hc : cells ≤ mc) (hs : slots ≤ ms) (hdg : decode cc pc = .ok (.areturn, 1)) : W p l e R s m ag below meth c H locs cells slots Q (F0 m pc ls [v]) := by
  subst hQ; subst hv
  have S1 := S.pick is isD hpm h1
  refine W.widen hc hs ?_
  exact W.aret X.1 X.2.1 hr hrt (va_rf_or r) (fun t ht hW => ⟨⟨r, u, rfl, hp, by rw [ht]; exact S1.1, S1.2.1⟩, S.2.2.F ht⟩) S.2.2.2.2 hdg hlk
theorem Sw.cong {H0 : Heap} {B1 : List va_W} (S : Sw G A H0 Bs H locs) (h : Bs = B1) : Sw G A H0 B1 H locs := h ▸ S
/-- the callee's blocks and the rest -/
def Cut (Bs Bc Br : List va_W) : Prop := Bs.flatten.Perm (Bc.flatten ++ Br.flatten)
theorem Sw.cut {H0 : Heap} (_ : Sw G A H0 Bs H locs) (is isR : List Nat) (hpm : (is ++ isR).isPerm (List.range Bs.length) = true) (h1 : pk Bs is = Bc) (h2 : pk Bs isR = Br) : Cut Bs Bc Br := by
  subst h1; subst h2
  have q := (pk_perm hpm).flatten
  rw [pk_app, List.flatten_append] at q
  exact q.symm
theorem Cut.P {D : va_G} {cl : List vw_C} (hq : Cut Bs Bc Br) (h : va_P D cl Bs.flatten H) : va_P D cl Bc.flatten H := va_P_iff.mpr fun q hz => va_P_iff.mp (va_P_perm hq h) q (List.mem_append_left _ hz)
theorem Cut.D (hq : Cut Bs Bc Br) (h : va_D A Bs.flatten) : va_D A Bc.flatten := by
  have h2 := va_D_iff.mp (va_D_perm hq h)
  rw [List.map_append, List.nodup_append] at h2
  exact va_D_iff.mpr ⟨h2.1.1, fun q hz => h2.2 q (List.mem_append_left _ hz)⟩
theorem Cut.F (hq : Cut Bs Bc Br) (X : Cx G p s m ag c cc own nL A) (S : Sw G A s.heap Bs H locs) : ∀ q, va_A Bc.flatten H.size q → A q := by
  intro q h
  rcases h with ⟨k, e, h⟩ | h
  · exact (hq.D S.2.1).2 k _ h
  · exact X.hA q (Nat.le_trans S.2.2.1 h)
theorem Cut.pre (hq : Cut Bs Bc Br) (X : Cx G p s m ag c cc own nL A) (S : Sw G A s.heap Bs H locs) (av : List Value) : ∀ U : State, U.heap = H → s.WarmedH U.vm → mPc G av Bc H.size av.toArray U := fun U hU hW =>
  ⟨rfl, by rw [hU], by rw [hU]; exact hq.P S.1, X.KG.warm hW (by rw [hU]; exact S.2.2.1) (fun a h1 h2 => by rw [hU]; exact S.2.2.2.1 a h1 (fun z => h2 (X.hb a z))), (hq.D S.2.1).weaken (fun _ _ _ h => X.hb _ h)⟩
theorem Cut.join (hq : Cut Bs Bc Br) (X : Cx G p s m ag c cc own nL A) (S : Sw G A s.heap Bs H locs) {w1 : List va_W} {H1 : Heap} {locs1 : List Loc} (hP1 : va_P (gD G) mC w1.flatten H1) (hD1 : va_D (va_A Bc.flatten H.size) w1.flatten) (hk : ∀ q : Nat, q < H.size → ¬ va_A Bc.flatten H.size q → H1[q]? = H[q]?) (hS : va_S A s.heap H1 locs1) : Sw G A s.heap (Br ++ w1) H1 locs1 := by
  have hP := va_P_iff.mp (va_P_perm hq S.1)
  have hD := va_D_iff.mp (va_D_perm hq S.2.1)
  rw [List.map_append, List.nodup_append] at hD
  have far : ∀ q ∈ Br.flatten, q.1 < H.size ∧ ¬ va_A Bc.flatten H.size q.1 := by
    intro q hz
    have hl := (hP q (List.mem_append_right _ hz)).lt
    refine ⟨hl, fun h => ?_⟩
    rcases h with ⟨k, e, h⟩ | h
    · exact hD.1.2.2 _ (List.mem_map.mpr ⟨_, List.mem_of_getElem? h, rfl⟩) _ (List.mem_map.mpr ⟨_, hz, rfl⟩) rfl
    · omega
  have e : (Br ++ w1).flatten = Br.flatten ++ w1.flatten := List.flatten_append
  unfold Sw
  rw [e]
  refine ⟨va_P_iff.mpr fun q hz => ?_, va_D_iff.mpr ⟨?_, fun q hz => ?_⟩, hS⟩
  · rcases List.mem_append.mp hz with h | h
    · exact (hP q (List.mem_append_right _ h)).kept (hk q.1 (far q h).1 (far q h).2)
    · exact va_P_iff.mp hP1 q h
  · rw [List.map_append, List.nodup_append]
    refine ⟨hD.1.2.1, (va_D_iff.mp hD1).1, fun x hx y hy hxy => ?_⟩
    obtain ⟨q, hq1, rfl⟩ := List.mem_map.mp hx
    obtain ⟨r, hr1, rfl⟩ := List.mem_map.mp hy
    exact (far q hq1).2 (by rw [hxy]; exact (va_D_iff.mp hD1).2 r hr1)
  · rcases List.mem_append.mp hz with h | h
    · exact hD.2 q (List.mem_append_right _ h)
    · exact hq.F X S _ ((va_D_iff.mp hD1).2 q h)
/-! behind a call: an answer of each kind -/
theorem m_ri {S0 : Type} {post : Int32 → S0 → Prop} {wo : S0 → List va_W} {av : Array Value} (X : Cx G p s m ag c cc own nL A) (S : Sw G A s.heap Bs H locs) (hq : Cut Bs Bc Br) (hr : va_Run p l e R s m ag below meth c H locs cells slots mc ms (F0 m pc ls st0) rest (Qi G post wo (va_A Bc.flatten H.size) av) (va_A Bc.flatten H.size))
    (kk : ∀ (r : Int32) (u : S0) (H1 : Heap) (locs1 : List Loc), post r u → Sw G A s.heap (Br ++ wo u) H1 locs1 → W p l e R s m ag below meth c H1 locs1 (cells + mc) (slots + ms) Q (F0 m (pc + 3) ls (.int r :: rest))) : W p l e R s m ag below meth c H locs cells slots Q (F0 m pc ls st0) :=
  va_calli hr S.2.2 (fun q _ h => hq.F X S q h) (hq.F X S) fun r u t H1 locs1 ht _ hp hB _ hk hS => kk r u H1 locs1 hp (hq.join X S (by rw [← ht]; exact hB.1) hB.2 hk hS)
theorem m_rl {S0 : Type} {post : Int64 → S0 → Prop} {wo : S0 → List va_W} {av : Array Value} (X : Cx G p s m ag c cc own nL A) (S : Sw G A s.heap Bs H locs) (hq : Cut Bs Bc Br) (hr : va_Run p l e R s m ag below meth c H locs cells slots mc ms (F0 m pc ls st0) rest (Ql G post wo (va_A Bc.flatten H.size) av) (va_A Bc.flatten H.size))
    (kk : ∀ (r : Int64) (u : S0) (H1 : Heap) (locs1 : List Loc), post r u → Sw G A s.heap (Br ++ wo u) H1 locs1 → W p l e R s m ag below meth c H1 locs1 (cells + mc) (slots + ms) Q (F0 m (pc + 3) ls (.long r :: rest))) : W p l e R s m ag below meth c H locs cells slots Q (F0 m pc ls st0) :=
  va_calll hr S.2.2 (fun q _ h => hq.F X S q h) (hq.F X S) fun r u t H1 locs1 ht _ hp hB _ hk hS => kk r u H1 locs1 hp (hq.join X S (by rw [← ht]; exact hB.1) hB.2 hk hS)
theorem m_rv {S0 : Type} {post : S0 → Prop} {wo : S0 → List va_W} {av : Array Value} (X : Cx G p s m ag c cc own nL A) (S : Sw G A s.heap Bs H locs) (hq : Cut Bs Bc Br) (hr : va_Run p l e R s m ag below meth c H locs cells slots mc ms (F0 m pc ls st0) rest (Qv G post wo (va_A Bc.flatten H.size) av) (va_A Bc.flatten H.size))
    (kk : ∀ (u : S0) (H1 : Heap) (locs1 : List Loc), post u → Sw G A s.heap (Br ++ wo u) H1 locs1 → W p l e R s m ag below meth c H1 locs1 (cells + mc) (slots + ms) Q (F0 m (pc + 3) ls rest)) : W p l e R s m ag below meth c H locs cells slots Q (F0 m pc ls st0) :=
  va_callv hr S.2.2 (fun q _ h => hq.F X S q h) (hq.F X S) fun u t H1 locs1 ht _ hp hB _ hk hS => kk u H1 locs1 hp (hq.join X S (by rw [← ht]; exact hB.1) hB.2 hk hS)
theorem m_rr {S0 : Type} {post : S0 → Prop} {wo : S0 → Nat → List va_W} {av : Array Value} (X : Cx G p s m ag c cc own nL A) (S : Sw G A s.heap Bs H locs) (hq : Cut Bs Bc Br) (hr : va_Run p l e R s m ag below meth c H locs cells slots mc ms (F0 m pc ls st0) rest (Qr G post wo (va_A Bc.flatten H.size) av) (va_A Bc.flatten H.size))
    (kk : ∀ (u : S0) (a : Nat) (H1 : Heap) (locs1 : List Loc), post u → Sw G A s.heap (Br ++ wo u a) H1 locs1 → W p l e R s m ag below meth c H1 locs1 (cells + mc) (slots + ms) Q (F0 m (pc + 3) ls (.ref a :: rest))) : W p l e R s m ag below meth c H locs cells slots Q (F0 m pc ls st0) :=
  va_callr hr S.2.2 (fun q _ h => hq.F X S q h) (hq.F X S) fun u a t H1 locs1 ht _ hp hB _ hk hS => kk u a H1 locs1 hp (hq.join X S (by rw [← ht]; exact hB.1) hB.2 hk hS)
theorem m_rq {S0 : Type} {post : Option Nat → S0 → Prop} {wo : S0 → List va_W} {av : Array Value} (X : Cx G p s m ag c cc own nL A) (S : Sw G A s.heap Bs H locs) (hq : Cut Bs Bc Br) (hr : va_Run p l e R s m ag below meth c H locs cells slots mc ms (F0 m pc ls st0) rest (Qq G post wo (va_A Bc.flatten H.size) av) (va_A Bc.flatten H.size))
    (kk : ∀ (r : Option Nat) (u : S0) (H1 : Heap) (locs1 : List Loc), post r u → Sw G A s.heap (Br ++ wo u) H1 locs1 → W p l e R s m ag below meth c H1 locs1 (cells + mc) (slots + ms) Q (F0 m (pc + 3) ls (va_rf r :: rest))) : W p l e R s m ag below meth c H locs cells slots Q (F0 m pc ls st0) :=
  va_callq hr S.2.2 (fun q _ h => hq.F X S q h) (hq.F X S) fun r u t H1 locs1 ht _ hp hB _ hk hS => kk r u H1 locs1 hp (hq.join X S (by rw [← ht]; exact hB.1) hB.2 hk hS)
theorem m_r5i {S0 : Type} {post : Int32 → S0 → Prop} {wo : S0 → List va_W} {av : Array Value} (X : Cx G p s m ag c cc own nL A) (S : Sw G A s.heap Bs H locs) (hq : Cut Bs Bc Br) (hr : va_Run5 p l e R s m ag below meth c H locs cells slots mc ms (F0 m pc ls st0) rest (Qi G post wo (va_A Bc.flatten H.size) av) (va_A Bc.flatten H.size))
    (kk : ∀ (r : Int32) (u : S0) (H1 : Heap) (locs1 : List Loc), post r u → Sw G A s.heap (Br ++ wo u) H1 locs1 → W p l e R s m ag below meth c H1 locs1 (cells + mc) (slots + ms) Q (F0 m (pc + 5) ls (.int r :: rest))) : W p l e R s m ag below meth c H locs cells slots Q (F0 m pc ls st0) :=
  va_callFi hr S.2.2 (fun q _ h => hq.F X S q h) (hq.F X S) fun r u t H1 locs1 ht _ hp hB _ hk hS => kk r u H1 locs1 hp (hq.join X S (by rw [← ht]; exact hB.1) hB.2 hk hS)
theorem m_r5v {S0 : Type} {post : S0 → Prop} {wo : S0 → List va_W} {av : Array Value} (X : Cx G p s m ag c cc own nL A) (S : Sw G A s.heap Bs H locs) (hq : Cut Bs Bc Br) (hr : va_Run5 p l e R s m ag below meth c H locs cells slots mc ms (F0 m pc ls st0) rest (Qv G post wo (va_A Bc.flatten H.size) av) (va_A Bc.flatten H.size))
    (kk : ∀ (u : S0) (H1 : Heap) (locs1 : List Loc), post u → Sw G A s.heap (Br ++ wo u) H1 locs1 → W p l e R s m ag below meth c H1 locs1 (cells + mc) (slots + ms) Q (F0 m (pc + 5) ls rest)) : W p l e R s m ag below meth c H locs cells slots Q (F0 m pc ls st0) :=
  va_callFv hr S.2.2 (fun q _ h => hq.F X S q h) (hq.F X S) fun u t H1 locs1 ht _ hp hB _ hk hS => kk u H1 locs1 hp (hq.join X S (by rw [← ht]; exact hB.1) hB.2 hk hS)
theorem m_r5r {S0 : Type} {post : S0 → Prop} {wo : S0 → Nat → List va_W} {av : Array Value} (X : Cx G p s m ag c cc own nL A) (S : Sw G A s.heap Bs H locs) (hq : Cut Bs Bc Br) (hr : va_Run5 p l e R s m ag below meth c H locs cells slots mc ms (F0 m pc ls st0) rest (Qr G post wo (va_A Bc.flatten H.size) av) (va_A Bc.flatten H.size))
    (kk : ∀ (u : S0) (a : Nat) (H1 : Heap) (locs1 : List Loc), post u → Sw G A s.heap (Br ++ wo u a) H1 locs1 → W p l e R s m ag below meth c H1 locs1 (cells + mc) (slots + ms) Q (F0 m (pc + 5) ls (.ref a :: rest))) : W p l e R s m ag below meth c H locs cells slots Q (F0 m pc ls st0) :=
  va_callFr hr S.2.2 (fun q _ h => hq.F X S q h) (hq.F X S) fun u a t H1 locs1 ht _ hp hB _ hk hS => kk u a H1 locs1 hp (hq.join X S (by rw [← ht]; exact hB.1) hB.2 hk hS)
/-! the call itself -/
variable {y : MethodName} {bytes : ByteArray} {maxL index n : Nat} {ret : Option FieldType} {rm : Room} {C : String} {b : Nat} {As : List Value} {Qf : (Nat → Prop) → Array Value → State → Outcome → State → Prop}
theorem m_recv (X : Cx G p s m ag c cc own nL A) (S : Sw G A s.heap Bs H locs) (i : Nat) {ci : Nat} {fs : List Value} (he : Bs[i]? = some [(b, .inr (ci, fs))]) {T : u_T} {N : Nat} (hc : mC[ci]? = some (C, T, N)) : ∃ cell : Cell, H[b]? = some cell ∧ cell.vm.isStatics = false ∧ s.vm.findClass C = some cell.cls :=
  va_recv X.K S.1 hc (fl_get he)
theorem m_runV (X : Cx G p s m ag c cc own nL A) (S : Sw G A s.heap Bs H locs) (hq : Cut Bs Bc Br) (hM : Cg G l y (ws_ y bytes maxL ret) rm (.ref b :: As) Bc Qf) (hg : GoodIn lw_all (wsV own index C y (ws_ y bytes maxL ret))) (hrecv : ∃ cell : Cell, H[b]? = some cell ∧ cell.vm.isStatics = false ∧ s.vm.findClass C = some cell.cls)
    (hd : y.cls = C ∧ y.cls ≠ "java/lang/invoke/MethodHandle" ∧ y.cls ≠ "java/lang/invoke/VarHandle" ∧ (parseMethodDescriptor y.desc).map (fun d => d.parameters.length) = some n) (hR : rm.frames + 1 ≤ R.frames ∧ 8 + (maxL + 11) + rm.locals ≤ R.locals) (hn : As.length = n) (hsize : ls.size = nL) (hst : st0 = As.reverse ++ .ref b :: rest) (hW : (rest.map fun v => v.category).sum ≤ 8) (hdg : decode cc pc = .ok (.invokevirtual index, 3)) (hf : cells + rm.cells ≤ R.cells ∧ slots + rm.slots ≤ R.slots) :
    va_Run p l e R s m ag below meth c H locs cells slots rm.cells rm.slots (F0 m pc ls st0) rest (Qf (va_A Bc.flatten H.size) (Value.ref b :: As).toArray) (va_A Bc.flatten H.size) :=
  va_runV (own := own) ⟨X.1, X.2.1, X.2.2.1, X.2.2.2.1, X.hts⟩ (hM H.size) (cwV n X.hts hg rfl rfl rfl hd hR) ⟨mPc_blind _ _ _ _, hrecv, hq.pre X S _⟩ rfl hn hsize hst (by show 2 * 0 + _ ≤ 8; omega) hdg hf
theorem m_runS (X : Cx G p s m ag c cc own nL A) (S : Sw G A s.heap Bs H locs) (hq : Cut Bs Bc Br) (hM : Cg G l y (ws_ y bytes maxL ret) rm As Bc Qf) (hg : GoodIn lw_all (va_wsS own index y (ws_ y bytes maxL ret)))
    (hd : y.cls ≠ "java/lang/invoke/MethodHandle" ∧ y.cls ≠ "java/lang/invoke/VarHandle" ∧ (parseMethodDescriptor y.desc).map (fun d => d.parameters.length) = some n) (hR : rm.frames + 1 ≤ R.frames ∧ 8 + (maxL + 11) + rm.locals ≤ R.locals) (hn : As.length = n) (hsize : ls.size = nL) (hst : st0 = As.reverse ++ rest) (hW : (rest.map fun v => v.category).sum ≤ 8) (hdg : decode cc pc = .ok (.invokestatic index, 3)) (hf : cells + rm.cells ≤ R.cells ∧ slots + rm.slots ≤ R.slots) :
    va_Run p l e R s m ag below meth c H locs cells slots rm.cells rm.slots (F0 m pc ls st0) rest (Qf (va_A Bc.flatten H.size) As.toArray) (va_A Bc.flatten H.size) :=
  va_runS (own := own) ⟨X.1, X.2.1, X.2.2.1, X.2.2.2.1, X.hts⟩ (hM H.size) (va_cwS n X.hts hg rfl rfl rfl hd hR) ⟨mPc_blind _ _ _ _, hq.pre X S _⟩ rfl hn hsize hst (by show 2 * 0 + _ ≤ 8; omega) hdg hf
theorem m_runI (X : Cx G p s m ag c cc own nL A) (S : Sw G A s.heap Bs H locs) (hq : Cut Bs Bc Br) (hM : Cg G l y (ws_ y bytes maxL none) rm (.ref b :: As) Bc Qf) (hc : Cond.code y bytes maxL none ∈ lw_all) (hini : Cond.initialized y.cls ∈ lw_all) (hlk : Cond.methodLink own index y ∈ lw_all) (him : Cond.instanceMethod y ∈ lw_all) (hy : y.name = "<init>")
    (hd : y.cls ≠ "java/lang/invoke/MethodHandle" ∧ y.cls ≠ "java/lang/invoke/VarHandle" ∧ (parseMethodDescriptor y.desc).map (fun d => d.parameters.length) = some n) (hR : rm.frames + 1 ≤ R.frames ∧ 8 + (maxL + 11) + rm.locals ≤ R.locals) (hn : As.length = n) (hsize : ls.size = nL) (hst : st0 = As.reverse ++ .ref b :: rest) (hW : (rest.map fun v => v.category).sum ≤ 8) (hdg : decode cc pc = .ok (.invokespecial index, 3)) (hf : cells + rm.cells ≤ R.cells ∧ slots + rm.slots ≤ R.slots) :
    va_Run p l e R s m ag below meth c H locs cells slots rm.cells rm.slots (F0 m pc ls st0) rest (Qf (va_A Bc.flatten H.size) (Value.ref b :: As).toArray) (va_A Bc.flatten H.size) :=
  va_runI (own := own) ⟨X.1, X.2.1, X.2.2.1, X.2.2.2.1, X.hts⟩ (hM H.size) (cwI n X.hts (lw_meth hc) rfl rfl rfl (X.hts _ hini) (X.hts _ hlk) (X.hts _ him) hy hd hR) ⟨mPc_blind _ _ _ _, hq.pre X S _⟩ rfl hn hsize hst (by show 2 * 0 + _ ≤ 8; omega) hdg hf
theorem m_runVN {host : String} (X : Cx G p s m ag c cc own nL A) (S : Sw G A s.heap Bs H locs) (hq : Cut Bs Bc Br) (hM : Cg G l y (ws_ y bytes maxL ret) rm (.ref b :: As) Bc Qf) (hc : Cond.code y bytes maxL ret ∈ lw_all) (hini : Cond.initialized y.cls ∈ lw_all) (hlk : Cond.methodLinkNest own index y host ∈ lw_tbl) (him : Cond.instanceMethod y ∈ lw_all) (hsel : Cond.selects C y y ∈ lw_all) (hrecv : ∃ cell : Cell, H[b]? = some cell ∧ cell.vm.isStatics = false ∧ s.vm.findClass C = some cell.cls)
    (hd : y.cls ≠ "java/lang/invoke/MethodHandle" ∧ y.cls ≠ "java/lang/invoke/VarHandle" ∧ (parseMethodDescriptor y.desc).map (fun d => d.parameters.length) = some n) (hR : rm.frames + 1 ≤ R.frames ∧ 8 + (maxL + 11) + rm.locals ≤ R.locals) (hn : As.length = n) (hsize : ls.size = nL) (hst : st0 = As.reverse ++ .ref b :: rest) (hW : (rest.map fun v => v.category).sum ≤ 8) (hdg : decode cc pc = .ok (.invokevirtual index, 3)) (hf : cells + rm.cells ≤ R.cells ∧ slots + rm.slots ≤ R.slots) :
    va_Run p l e R s m ag below meth c H locs cells slots rm.cells rm.slots (F0 m pc ls st0) rest (Qf (va_A Bc.flatten H.size) (Value.ref b :: As).toArray) (va_A Bc.flatten H.size) :=
  va_runVN (own := own) ⟨X.1, X.2.1, X.2.2.1, X.2.2.2.1, X.hts⟩ (hM H.size) ⟨va_cnB n X.hts (lw_meth hc) rfl rfl rfl (X.nw hlk rfl) (X.hts _ hini) hd hR, X.hts _ him, X.hts _ hsel⟩ ⟨mPc_blind _ _ _ _, hrecv, hq.pre X S _⟩ rfl hn hsize hst (by show 2 * 0 + _ ≤ 8; omega) hdg hf
theorem m_runSN {host : String} (X : Cx G p s m ag c cc own nL A) (S : Sw G A s.heap Bs H locs) (hq : Cut Bs Bc Br) (hM : Cg G l y (ws_ y bytes maxL ret) rm As Bc Qf) (hc : Cond.code y bytes maxL ret ∈ lw_all) (hini : Cond.initialized y.cls ∈ lw_all) (hlk : Cond.methodLinkNest own index y host ∈ lw_tbl) (hstat : Cond.static y ∈ lw_all)
    (hd : y.cls ≠ "java/lang/invoke/MethodHandle" ∧ y.cls ≠ "java/lang/invoke/VarHandle" ∧ (parseMethodDescriptor y.desc).map (fun d => d.parameters.length) = some n) (hR : rm.frames + 1 ≤ R.frames ∧ 8 + (maxL + 11) + rm.locals ≤ R.locals) (hn : As.length = n) (hsize : ls.size = nL) (hst : st0 = As.reverse ++ rest) (hW : (rest.map fun v => v.category).sum ≤ 8) (hdg : decode cc pc = .ok (.invokestatic index, 3)) (hf : cells + rm.cells ≤ R.cells ∧ slots + rm.slots ≤ R.slots) :
    va_Run p l e R s m ag below meth c H locs cells slots rm.cells rm.slots (F0 m pc ls st0) rest (Qf (va_A Bc.flatten H.size) As.toArray) (va_A Bc.flatten H.size) :=
  va_runSN (own := own) ⟨X.1, X.2.1, X.2.2.1, X.2.2.2.1, X.hts⟩ (hM H.size) ⟨va_cnB n X.hts (lw_meth hc) rfl rfl rfl (X.nw hlk rfl) (X.hts _ hini) hd hR, X.hts _ hstat, trivial⟩ ⟨mPc_blind _ _ _ _, hq.pre X S _⟩ rfl hn hsize hst (by show 2 * 0 + _ ≤ 8; omega) hdg hf
theorem m_runIN {host : String} (X : Cx G p s m ag c cc own nL A) (S : Sw G A s.heap Bs H locs) (hq : Cut Bs Bc Br) (hM : Cg G l y (ws_ y bytes maxL none) rm (.ref b :: As) Bc Qf) (hc : Cond.code y bytes maxL none ∈ lw_all) (hini : Cond.initialized y.cls ∈ lw_all) (hlk : Cond.methodLinkNest own index y host ∈ lw_tbl) (him : Cond.instanceMethod y ∈ lw_all) (hy : y.name = "<init>")
    (hd : y.cls ≠ "java/lang/invoke/MethodHandle" ∧ y.cls ≠ "java/lang/invoke/VarHandle" ∧ (parseMethodDescriptor y.desc).map (fun d => d.parameters.length) = some n) (hR : rm.frames + 1 ≤ R.frames ∧ 8 + (maxL + 11) + rm.locals ≤ R.locals) (hn : As.length = n) (hsize : ls.size = nL) (hst : st0 = As.reverse ++ .ref b :: rest) (hW : (rest.map fun v => v.category).sum ≤ 8) (hdg : decode cc pc = .ok (.invokespecial index, 3)) (hf : cells + rm.cells ≤ R.cells ∧ slots + rm.slots ≤ R.slots) :
    va_Run p l e R s m ag below meth c H locs cells slots rm.cells rm.slots (F0 m pc ls st0) rest (Qf (va_A Bc.flatten H.size) (Value.ref b :: As).toArray) (va_A Bc.flatten H.size) :=
  va_runIN (own := own) ⟨X.1, X.2.1, X.2.2.1, X.2.2.2.1, X.hts⟩ (hM H.size) ⟨va_cnB n X.hts (lw_meth hc) rfl rfl rfl (X.nw hlk rfl) (X.hts _ hini) hd hR, hy, X.hts _ him⟩ ⟨mPc_blind _ _ _ _, hq.pre X S _⟩ rfl hn hsize hst (by show 2 * 0 + _ ≤ 8; omega) hdg hf
/-- a method that the named class inherits, or that the receiver's class overrides: x is what is named, y what runs -/
theorem m_runU {owner : String} {x : MethodName} (X : Cx G p s m ag c cc own nL A) (S : Sw G A s.heap Bs H locs) (hq : Cut Bs Bc Br) (hM : Cg G l y (ws_ y bytes maxL ret) rm (.ref b :: As) Bc Qf) (hc : Cond.code y bytes maxL ret ∈ lw_all) (hini : Cond.initialized y.cls ∈ lw_all) (hlk : Cond.methodLink own index x ∈ lw_all) (hsm : Cond.sameMethod x.cls owner x.name x.desc ∈ lw_all) (him : Cond.instanceMethod y ∈ lw_all) (hsel : Cond.selects C x y ∈ lw_all) (hyx : y = ⟨owner, x.name, x.desc⟩) (hrecv : ∃ cell : Cell, H[b]? = some cell ∧ cell.vm.isStatics = false ∧ s.vm.findClass C = some cell.cls)
    (hd : owner ≠ "java/lang/invoke/MethodHandle" ∧ owner ≠ "java/lang/invoke/VarHandle" ∧ (parseMethodDescriptor x.desc).map (fun d => d.parameters.length) = some n) (hR : rm.frames + 1 ≤ R.frames ∧ 8 + (maxL + 11) + rm.locals ≤ R.locals) (hn : As.length = n) (hsize : ls.size = nL) (hst : st0 = As.reverse ++ .ref b :: rest) (hW : (rest.map fun v => v.category).sum ≤ 8) (hdg : decode cc pc = .ok (.invokevirtual index, 3)) (hf : cells + rm.cells ≤ R.cells ∧ slots + rm.slots ≤ R.slots) :
    va_Run p l e R s m ag below meth c H locs cells slots rm.cells rm.slots (F0 m pc ls st0) rest (Qf (va_A Bc.flatten H.size) (Value.ref b :: As).toArray) (va_A Bc.flatten H.size) :=
  va_runU (own := own) ⟨X.1, X.2.1, X.2.2.1, X.2.2.2.1, X.hts⟩ (hM H.size) (va_cwU n X.hts (lw_app (by
    intro w hw
    simp only [List.mem_cons, List.not_mem_nil, or_false] at hw
    rcases hw with e | e | e | e | e <;> rw [e] <;> assumption) (lw_meth hc)) rfl rfl rfl hyx hd hR) ⟨mPc_blind _ _ _ _, hrecv, hq.pre X S _⟩ rfl hn hsize hst (by show 2 * 0 + _ ≤ 8; omega) hdg hf
theorem m_runF {x : MethodName} {count : Nat} (X : Cx G p s m ag c cc own nL A) (S : Sw G A s.heap Bs H locs) (hq : Cut Bs Bc Br) (hM : Cg G l y (ws_ y bytes maxL ret) rm (.ref b :: As) Bc Qf) (hc : Cond.code y bytes maxL ret ∈ lw_all) (hini : Cond.initialized y.cls ∈ lw_all) (hlk : Cond.methodLink own index x ∈ lw_all) (him : Cond.instanceMethod y ∈ lw_all) (hsel : Cond.selects C x y ∈ lw_all) (hF : va_Fw C x y s) {cC : ClassId} (hcl : ClassAt s C cC) (hrecv : ∃ cell : Cell, H[b]? = some cell ∧ cell.vm.isStatics = false ∧ s.vm.findClass C = some cell.cls)
    (hd : x.cls ≠ "java/lang/invoke/MethodHandle" ∧ x.cls ≠ "java/lang/invoke/VarHandle" ∧ (parseMethodDescriptor x.desc).map (fun d => d.parameters.length) = some n) (hR : rm.frames + 1 ≤ R.frames ∧ 8 + (maxL + 11) + rm.locals ≤ R.locals) (hn : As.length = n) (hsize : ls.size = nL) (hst : st0 = As.reverse ++ .ref b :: rest) (hW : (rest.map fun v => v.category).sum ≤ 8) (hdg : decode cc pc = .ok (.invokeinterface index count, 5)) (hf : cells + rm.cells ≤ R.cells ∧ slots + rm.slots ≤ R.slots) :
    va_Run5 p l e R s m ag below meth c H locs cells slots rm.cells rm.slots (F0 m pc ls st0) rest (Qf (va_A Bc.flatten H.size) (Value.ref b :: As).toArray) (va_A Bc.flatten H.size) :=
  va_runF (own := own) hcl ⟨X.1, X.2.1, X.2.2.1, X.2.2.2.1, X.hts⟩ (hM H.size) (va_cwF n X.hts (lw_app (by
    intro w hw
    simp only [List.mem_cons, List.not_mem_nil, or_false] at hw
    rcases hw with e | e | e | e <;> rw [e] <;> assumption) (lw_meth hc)) rfl rfl rfl hF hd hR) ⟨mPc_blind _ _ _ _, hrecv, hq.pre X S _⟩ rfl hn hsize hst (by show 2 * 0 + _ ≤ 8; omega) hdg hf
/-! little ones -/
theorem lv_cong {l1 l2 : List (Nat × Value)} {n : Nat} (h : lv_has ls n l1) (e : l1 = l2) : lv_has ls n l2 := e ▸ h
theorem lv_toe {x y : Int32} (h : x = y) (k : W p l e R s m ag below meth c H locs cells slots Q (F0 m pc ls (.int y :: rest))) : W p l e R s m ag below meth c H locs cells slots Q (F0 m pc ls (.int x :: rest)) := by subst h; exact k
theorem lv_toeL {x y : Int64} (h : x = y) (k : W p l e R s m ag below meth c H locs cells slots Q (F0 m pc ls (.long y :: rest))) : W p l e R s m ag below meth c H locs cells slots Q (F0 m pc ls (.long x :: rest)) := by subst h; exact k
theorem lv_toev {x y : Value} (h : x = y) (k : W p l e R s m ag below meth c H locs cells slots Q (F0 m pc ls (y :: rest))) : W p l e R s m ag below meth c H locs cells slots Q (F0 m pc ls (x :: rest)) := by subst h; exact k
end ME
