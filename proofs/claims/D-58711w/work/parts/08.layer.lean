/-! LAYER: one bundle of what stays (Cx), one of the moving world (Sw), rows and calls over both -/
set_option maxRecDepth 100000
abbrev mC : List vw_C := [(RX0, TX0, 4), (RX1, TX1, 9), (RX2, TX2, 6), (RX3, TX3, 16), (RX4, TX4, 2), (RX5, TX5, 4), (RX7, TX7, 4), (RJ0, TJ0, 3), (RJ4, TJ4, 4), (RJ5, TJ5, 3), (RJ7, TJ7, 4), (RJ15, TJ15, 5), (RJ24, TJ24, 3), (RJ28, TJ28, 3)]
abbrev mGG : Type := (Nat → ClassId) × (Nat → Nat → Nat) × (Nat → ClassId) × Nat × (Nat → Nat) × (Nat → Nat)
def gD (G : mGG) : va_G := (G.1, G.2.1)
/-- the array kinds: 0 int, 1 long, 2 byte, 3 boolean, 4 Object, 5 Player, 6 Chart -/
def gA (G : mGG) : Nat → ClassId := G.2.2.1
/-- the heap's size at the law's entry: every cell of a world is new -/
def gb (G : mGG) : Nat := G.2.2.2.1
/-- addresses of static arrays: 0 LEAST, 1 MOST, 2 the cache of Integers, 3 the empty array; from 100 on String constants, from 200 on their bytes -/
def gs (G : mGG) : Nat → Nat := G.2.2.2.2.1
/-- addresses of the cached Integers -/
def gi (G : mGG) : Nat → Nat := G.2.2.2.2.2
def mT (G : mGG) : List (ClassId × FieldType) := [(gA G 0, .int), (gA G 1, .long), (gA G 2, .byte), (gA G 3, .boolean), (gA G 4, .object "java/lang/Object"), (gA G 5, .object "LiarMaps$Player"), (gA G 6, .object "LiarMaps$Chart")]
def mOld (G : mGG) : Nat → Prop := fun q => gb G ≤ q
/-- kinds of words of the tables that no list carries -/
def mNwOk : Cond → Bool
  | .fieldLinkNest _ _ _ _ _ _ => true
  | .methodLinkNest _ _ _ _ => true
  | .declares _ => true
  | .castable _ _ => true
  | .publicMethod _ => true
  | .unhidden _ _ _ => true
  | _ => false
theorem mNw_warm {w : Cond} (hw : mNwOk w = true) {s U : State} (hW : s.WarmedH U.vm) (h : va_Nw w s) : va_Nw w U := by
  cases w <;> first
    | exact va_Nw.warmF hW h
    | exact va_Nw.warmM hW h
    | exact va_Nw.warmD hW h
    | exact va_Nw.warmC hW h
    | exact va_tabs rfl (rfl : (s.setVm U.vm).vm = U.vm) (by rw [Cond.publicMethod_setVm hW.alike]; exact h)
    | exact va_tabs rfl (rfl : (s.setVm U.vm).vm = U.vm) (by rw [Cond.unhidden_setVm hW.alike]; exact h)
    | (exact absurd hw (by simp [mNwOk]))
theorem mNw_same {w : Cond} (hw : mNwOk w = true) {s U : State} (hv : s.vm = U.vm) (h : va_Nw w s) : va_Nw w U := by
  cases w <;> first
    | exact va_Nw.same rfl hv h
    | (exact absurd hw (by simp [mNwOk]))
/-- the interfaces' methods that are called -/
def mFace : List MethodName := [⟨"java/util/Deque", "size", "()I"⟩, ⟨"java/util/Deque", "removeFirst", "()Ljava/lang/Object;"⟩, ⟨"java/util/Deque", "addLast", "(Ljava/lang/Object;)V"⟩, ⟨"java/util/Deque", "removeLast", "()Ljava/lang/Object;"⟩, ⟨"java/util/Iterator", "hasNext", "()Z"⟩, ⟨"java/util/Iterator", "next", "()Ljava/lang/Object;"⟩, ⟨"java/util/List", "add", "(Ljava/lang/Object;)Z"⟩, ⟨"java/util/List", "size", "()I"⟩, ⟨"java/util/List", "get", "(I)Ljava/lang/Object;"⟩, ⟨"java/lang/CharSequence", "length", "()I"⟩, ⟨"java/lang/CharSequence", "charAt", "(I)C"⟩, ⟨"LiarMaps$Sign", "text", "()Ljava/lang/CharSequence;"⟩]
def mFaceW (x : MethodName) : Cond := .interfaceMethod x.cls x.cls x.name x.desc
theorem mFace_warm {x : MethodName} (hx : x.cls ≠ "java/lang/invoke/MethodHandle" ∧ x.cls ≠ "java/lang/invoke/VarHandle") {s U : State} (hW : s.WarmedH U.vm) (hd : va_Nw (.declares x) s) (h : va_Nw (mFaceW x) s) : va_Nw (mFaceW x) U := by
  obtain ⟨r, meth, hn, -⟩ := Cond.declares_spec hd
  exact va_tabs rfl (rfl : (s.setVm U.vm).vm = U.vm) (by
    show (Cond.interfaceMethod x.cls x.cls x.name x.desc).before #[] (s.setVm U.vm) = true
    rw [Cond.interfaceMethod_setVm hW.alike (r := r) hn hx]
    exact h)
/-- the words that are carried -/
def mKW (U : State) : Prop := (∀ w ∈ lw_tbl, mNwOk w = true → va_Nw w U) ∧ (∀ x ∈ mFace, va_Nw (mFaceW x) U) ∧ va_AO "java/lang/Object" U ∧ va_AO "LiarMaps$Player" U ∧ va_AO "LiarMaps$Chart" U
theorem mFace_decl : ∀ x ∈ mFace, Cond.declares x ∈ lw_tbl := by
  show ∀ x ∈ [_, _, _, _, _, _, _, _, _, _, _, _], _
  simp only [List.forall_mem_cons, List.not_mem_nil, false_imp_iff, implies_true, and_true]
  exact ⟨q356, q375, q957, q1676, q558, q587, q1587, q1639, q1647, q1427, q1439, q1417⟩
theorem mFace_ok : ∀ x ∈ mFace, x.cls ≠ "java/lang/invoke/MethodHandle" ∧ x.cls ≠ "java/lang/invoke/VarHandle" := by decide +kernel
theorem mKW.warm {s U : State} (hW : s.WarmedH U.vm) (h : mKW s) : mKW U :=
  ⟨fun w hw ho => mNw_warm ho hW (h.1 w hw ho), fun x hx => mFace_warm (mFace_ok x hx) hW (h.1 _ (mFace_decl x hx) rfl) (h.2.1 x hx), va_AO.moved hW.alike h.2.2.1, va_AO.moved hW.alike h.2.2.2.1, va_AO.moved hW.alike h.2.2.2.2⟩
theorem mKW.same {s U : State} (hv : s.vm = U.vm) (h : mKW s) : mKW U :=
  ⟨fun w hw ho => mNw_same ho hv (h.1 w hw ho), fun x hx => va_Nw.same rfl hv (h.2.1 x hx), va_AO.moved (by rw [hv]; exact Vm.Alike.refl _) h.2.2.1, va_AO.moved (by rw [hv]; exact Vm.Alike.refl _) h.2.2.2.1, va_AO.moved (by rw [hv]; exact Vm.Alike.refl _) h.2.2.2.2⟩
theorem mKW.face {U : State} (h : mKW U) {C : String} {x y : MethodName} (hx : x ∈ mFace) (hd : Cond.declares x ∈ lw_tbl) (hp : Cond.publicMethod y ∈ lw_tbl) (hu : Cond.unhidden C x.name x.desc ∈ lw_tbl) (hc : Cond.castable C x.cls ∈ lw_tbl) : va_Fw C x y U :=
  ⟨h.1 _ hd rfl, h.2.1 x hx, h.1 _ hp rfl, h.1 _ hu rfl, h.1 _ hc rfl⟩
/-- the String constants that are loaded: whose file, which entry, its text; the same text is the same object -/
def mStr : List (String × Nat × String × Nat) := []
/-- what stays of the statics -/
def mKS (G : mGG) (U : State) : Prop :=
  va_Z "LiarMaps" "LEAST" "[I" (.ref (gs G 0)) (mOld G) U U.heap ∧ va_T .int (gs G 0) 4 (fun j => .int (if j = 1 ∨ j = 3 then 1 else 0)) (mOld G) U U.heap ∧
  va_Z "LiarMaps" "MOST" "[I" (.ref (gs G 1)) (mOld G) U U.heap ∧ va_T .int (gs G 1) 4 (fun j => .int (if j = 0 then 20 else if j = 3 then 200 else 50)) (mOld G) U U.heap ∧
  va_Z "java/lang/Integer$IntegerCache" "high" "I" (.int 127) (mOld G) U U.heap ∧ va_Z "java/lang/Integer$IntegerCache" "cache" "[Ljava/lang/Integer;" (.ref (gs G 2)) (mOld G) U U.heap ∧ va_T (.object "java/lang/Integer") (gs G 2) 256 (fun j => .ref (gi G j)) (mOld G) U U.heap ∧ vb_C (gi G) (mOld G) U U.heap ∧
  va_Z "java/lang/String" "COMPACT_STRINGS" "Z" (.int 1) (mOld G) U U.heap ∧ va_Z "java/util/BitSet" "$assertionsDisabled" "Z" (.int 1) (mOld G) U U.heap ∧
  va_Z "java/util/ArrayList" "DEFAULTCAPACITY_EMPTY_ELEMENTDATA" "[Ljava/lang/Object;" (.ref (gs G 3)) (mOld G) U U.heap ∧ va_T (.object "java/lang/Object") (gs G 3) 0 (fun _ => .null) (mOld G) U U.heap
theorem mKS.moved {G : mGG} {u U : State} (hvm : u.vm.Alike U.vm) (hq : ∀ a : Nat, a < u.heap.size → ¬ mOld G a → U.heap[a]? = u.heap[a]?) (h : mKS G u) : mKS G U := by
  obtain ⟨h1, h2, h3, h4, h5, h6, h7, h8, h9, h10, h11, h12⟩ := h
  exact ⟨(va_Z.moved hvm h1).kept hq, (va_T.moved hvm h2).kept hq, (va_Z.moved hvm h3).kept hq, (va_T.moved hvm h4).kept hq, (va_Z.moved hvm h5).kept hq, (va_Z.moved hvm h6).kept hq, (va_T.moved hvm h7).kept hq, (vb_C.moved hvm h8).kept hq, (va_Z.moved hvm h9).kept hq, (va_Z.moved hvm h10).kept hq, (va_Z.moved hvm h11).kept hq, (va_T.moved hvm h12).kept hq⟩
/-- all that stays -/
def KG (G : mGG) (U : State) : Prop := va_K (gD G) mC (mT G) U ∧ gb G ≤ U.heap.size ∧ mKW U ∧ mKS G U
theorem KG.warm {G : mGG} {s U : State} (h : KG G s) (hW : s.WarmedH U.vm) (hz : s.heap.size ≤ U.heap.size) (hq : ∀ a : Nat, a < s.heap.size → ¬ mOld G a → U.heap[a]? = s.heap[a]?) : KG G U :=
  ⟨va_K.moved hW.alike h.1, Nat.le_trans h.2.1 hz, h.2.2.1.warm hW, h.2.2.2.moved hW.alike hq⟩
theorem KG.same {G : mGG} {s U : State} (h : KG G s) (hv : s.vm = U.vm) (hh : U.heap = s.heap) : KG G U :=
  ⟨va_K.moved (by rw [hv]; exact Vm.Alike.refl _) h.1, by rw [hh]; exact h.2.1, h.2.2.1.same hv, h.2.2.2.moved (by rw [hv]; exact Vm.Alike.refl _) (fun a _ _ => by rw [hh])⟩
/-! blocks -/
theorem fl_get : ∀ {Bs : List va_W} {i : Nat} {x : Nat × va_E}, Bs[i]? = some [x] → Bs.flatten[(Bs.take i).flatten.length]? = some x
  | [], _, _, h => by simp at h
  | b :: Bs, 0, x, h => by
    have hb : b = [x] := by simpa using h
    subst hb
    rfl
  | b :: Bs, i + 1, x, h => by
    have h' : Bs[i]? = some [x] := by simpa using h
    have ih := fl_get h'
    rw [List.flatten_cons, List.take_succ_cons, List.flatten_cons, List.length_append, List.getElem?_append_right (by omega), Nat.add_sub_cancel_left]
    exact ih
theorem fl_set : ∀ {Bs : List va_W} {i : Nat} {x y : Nat × va_E}, Bs[i]? = some [x] → Bs.flatten.set (Bs.take i).flatten.length y = (Bs.set i [y]).flatten
  | [], _, _, _, h => by simp at h
  | b :: Bs, 0, x, y, h => by
    have hb : b = [x] := by simpa using h
    subst hb
    rfl
  | b :: Bs, i + 1, x, y, h => by
    have h' : Bs[i]? = some [x] := by simpa using h
    have ih := fl_set (y := y) h'
    rw [List.flatten_cons, List.take_succ_cons, List.flatten_cons, List.length_append, List.set_append_right _ _ (by omega), Nat.add_sub_cancel_left, List.set_cons_succ, List.flatten_cons, ih]
theorem va_P_iff {D : va_G} {cl : List vw_C} {ws : va_W} {H : Heap} : va_P D cl ws H ↔ ∀ q ∈ ws, va_at D cl q H := by
  constructor
  · intro h q hq
    obtain ⟨k, hk⟩ := List.getElem?_of_mem hq
    exact h k q hk
  · intro h k q hk
    exact h q (List.mem_of_getElem? hk)
theorem va_D_iff {A : Nat → Prop} {ws : va_W} : va_D A ws ↔ (ws.map (·.1)).Nodup ∧ ∀ q ∈ ws, A q.1 := by
  constructor
  · intro h
    refine ⟨?_, fun q hq => ?_⟩
    · rw [List.Nodup, List.pairwise_iff_getElem]
      intro i j hi hj hij he
      rw [List.length_map] at hi hj
      rw [List.getElem_map, List.getElem_map] at he
      have := h.1 i j _ _ (List.getElem?_eq_getElem hi) (List.getElem?_eq_getElem hj) he
      omega
    · obtain ⟨k, hk⟩ := List.getElem?_of_mem hq
      exact h.2 k q hk
  · intro h
    refine ⟨fun i j p q hi hj he => ?_, fun k q hk => h.2 q (List.mem_of_getElem? hk)⟩
    have hn := h.1
    rw [List.Nodup, List.pairwise_iff_getElem] at hn
    obtain ⟨li, ei⟩ := List.getElem?_eq_some_iff.mp hi
    obtain ⟨lj, ej⟩ := List.getElem?_eq_some_iff.mp hj
    have key : ∀ (a b : Nat) (ha : a < ws.length) (hb : b < ws.length), a < b → (ws[a]).1 ≠ (ws[b]).1 := by
      intro a b ha hb hab
      have := hn a b (by rw [List.length_map]; exact ha) (by rw [List.length_map]; exact hb) hab
      rw [List.getElem_map, List.getElem_map] at this
      exact this
    rcases Nat.lt_trichotomy i j with c | c | c
    · exact absurd (by rw [ei, ej]; exact he) (key i j li lj c)
    · exact c
    · exact absurd (by rw [ei, ej]; exact he.symm) (key j i lj li c)
theorem va_P_perm {D : va_G} {cl : List vw_C} {w1 w2 : va_W} {H : Heap} (p : w1.Perm w2) (h : va_P D cl w1 H) : va_P D cl w2 H :=
  va_P_iff.mpr fun q hq => va_P_iff.mp h q (p.mem_iff.mpr hq)
theorem va_D_perm {A : Nat → Prop} {w1 w2 : va_W} (p : w1.Perm w2) (h : va_D A w1) : va_D A w2 := by
  rw [va_D_iff] at h ⊢
  exact ⟨(p.map _).nodup_iff.mp h.1, fun q hq => h.2 q (p.mem_iff.mpr hq)⟩
def pk (Bs : List va_W) (is : List Nat) : List va_W := is.filterMap (fun i => Bs[i]?)
theorem fm_range {α : Type} : ∀ (l : List α), (List.range l.length).filterMap (fun i => l[i]?) = l := by
  intro l
  induction l with
  | nil => rfl
  | cons a l ih =>
    rw [List.length_cons, List.range_succ_eq_map, List.filterMap_cons, List.filterMap_map]
    exact congrArg (List.cons a) ih
theorem pk_perm {Bs : List va_W} {is : List Nat} (h : is.isPerm (List.range Bs.length) = true) : (pk Bs is).Perm Bs := by
  have h1 := List.isPerm_iff.mp h
  have h2 : (is.filterMap (fun i => Bs[i]?)).Perm ((List.range Bs.length).filterMap (fun i => Bs[i]?)) := h1.filterMap _
  rw [fm_range] at h2
  exact h2
theorem pk_app (Bs : List va_W) (a b : List Nat) : pk Bs (a ++ b) = pk Bs a ++ pk Bs b := List.filterMap_append
/-- the moving world: blocks Bs, what has been written since the entry -/
def Sw (G : mGG) (A : Nat → Prop) (H0 : Heap) (Bs : List va_W) (H : Heap) (locs : List Loc) : Prop := va_P (gD G) mC Bs.flatten H ∧ va_D A Bs.flatten ∧ va_S A H0 H locs
theorem Sw.pick {G : mGG} {A : Nat → Prop} {H0 : Heap} {Bs B1 : List va_W} {H : Heap} {locs : List Loc} (S : Sw G A H0 Bs H locs) (is isD : List Nat) (hp : (is ++ isD).isPerm (List.range Bs.length) = true) (h1 : pk Bs is = B1) : Sw G A H0 B1 H locs := by
  subst h1
  have p := (pk_perm hp).flatten
  rw [pk_app, List.flatten_append] at p
  have hP := va_P_perm p.symm S.1
  have hD := va_D_perm p.symm S.2.1
  rw [va_D_iff, List.map_append, List.nodup_append] at hD
  exact ⟨va_P_iff.mpr fun q hq => va_P_iff.mp hP q (List.mem_append_left _ hq), va_D_iff.mpr ⟨hD.1.1, fun q hq => hD.2 q (List.mem_append_left _ hq)⟩, S.2.2⟩
theorem Sw.re {G : mGG} {A : Nat → Prop} {H0 : Heap} {Bs B1 : List va_W} {H : Heap} {locs : List Loc} (S : Sw G A H0 Bs H locs) (h : Bs.flatten = B1.flatten) : Sw G A H0 B1 H locs := by
  unfold Sw at S ⊢
  rw [← h]
  exact S
theorem Sw.perm {G : mGG} {A : Nat → Prop} {H0 : Heap} {Bs B1 : List va_W} {H : Heap} {locs : List Loc} (S : Sw G A H0 Bs H locs) (h : Bs.flatten.Perm B1.flatten) : Sw G A H0 B1 H locs := ⟨va_P_perm h S.1, va_D_perm h S.2.1, S.2.2⟩
/-- what stays inside a method -/
def Cx (G : mGG) (p : Program) (s : State) (m : MethodId) (ag : Array Value) (c : Code) (cc : ByteArray) (own : String) (nL : Nat) (A : Nat → Prop) : Prop :=
  p.tables.exec = Jvm.exec ∧ c.code = cc ∧ c.maxLocals = nL ∧ s.vm.findClass own = some m.cls ∧ (∀ w ∈ lw_all, w.before ag s = true) ∧ KG G s ∧ (∀ q, s.heap.size ≤ q → A q) ∧ ∀ q, A q → gb G ≤ q
section MX
variable {G : mGG} {p : Program} {l : Launch} {e : Env} {R : Room} {s : State} {m : MethodId} {ag : Array Value} {below : List Frame} {meth : Method} {c : Code} {H : Heap} {locs : List Loc} {cells slots : Nat} {Q : State → Prop}
variable {cc : ByteArray} {own : String} {nL pc : Nat} {ls : Array Slot} {rest : List Value} {A : Nat → Prop} {Bs : List va_W} {a : Nat}
theorem Cx.hts (X : Cx G p s m ag c cc own nL A) : ∀ w ∈ lw_all, w.before ag s = true := X.2.2.2.2.1
theorem Cx.K (X : Cx G p s m ag c cc own nL A) : va_K (gD G) mC (mT G) s := X.2.2.2.2.2.1.1
theorem Cx.KG (X : Cx G p s m ag c cc own nL A) : KG G s := X.2.2.2.2.2.1
theorem Cx.kw (X : Cx G p s m ag c cc own nL A) : mKW s := X.2.2.2.2.2.1.2.2.1
theorem Cx.nw (X : Cx G p s m ag c cc own nL A) {w : Cond} (h : w ∈ lw_tbl) (ho : mNwOk w = true) : va_Nw w s := X.kw.1 w h ho
theorem Cx.hA (X : Cx G p s m ag c cc own nL A) : ∀ q, s.heap.size ≤ q → A q := X.2.2.2.2.2.2.1
theorem Cx.hb (X : Cx G p s m ag c cc own nL A) : ∀ q, A q → mOld G q := X.2.2.2.2.2.2.2
theorem m_get (X : Cx G p s m ag c cc own nL A) (S : Sw G A s.heap Bs H locs) (i : Nat) {ci : Nat} {fs : List Value} (he : Bs[i]? = some [(a, .inr (ci, fs))]) {C : String} {T : u_T} {N : Nat} (hin : ∀ w ∈ u_ws C T N, w ∈ lw_all) (hc : mC[ci]? = some (C, T, N)) (k : Nat) (hk : k < N) {ref : String} {index : Nat} (hlink : Cond.fieldLink own index ref (T k).2.1 (T k).2.2.1 ∈ lw_all) (hsame : ∀ x, s.fieldFound? (T k).1 (T k).2.1 (T k).2.2.1 = some x → s.fieldFound? ref (T k).2.1 (T k).2.2.1 = some x) {v : Value} (hv : fs[k]? = some v) (hdg : decode cc pc = .ok (.getfield index, 3))
    (kk : W p l e R s m ag below meth c H locs cells slots Q (F0 m (pc + 3) ls (v :: rest))) : W p l e R s m ag below meth c H locs cells slots Q (F0 m pc ls (.ref a :: rest)) :=
  va_get X.1 X.2.1 X.hts hin X.2.2.2.1 X.K S.1 _ (fl_get he) hc k hk (X.hts _ hlink) hsame hv hdg kk
theorem m_getN (X : Cx G p s m ag c cc own nL A) (S : Sw G A s.heap Bs H locs) (i : Nat) {ci : Nat} {fs : List Value} (he : Bs[i]? = some [(a, .inr (ci, fs))]) {C : String} {T : u_T} {N : Nat} (hin : ∀ w ∈ u_ws C T N, w ∈ lw_all) (hc : mC[ci]? = some (C, T, N)) (k : Nat) (hk : k < N) {ref host : String} {index : Nat} (hlink : Cond.fieldLinkNest own index ref (T k).2.1 (T k).2.2.1 host ∈ lw_tbl) (hsame : ∀ x, s.fieldFound? (T k).1 (T k).2.1 (T k).2.2.1 = some x → s.fieldFound? ref (T k).2.1 (T k).2.2.1 = some x) {v : Value} (hv : fs[k]? = some v) (hdg : decode cc pc = .ok (.getfield index, 3))
    (kk : W p l e R s m ag below meth c H locs cells slots Q (F0 m (pc + 3) ls (v :: rest))) : W p l e R s m ag below meth c H locs cells slots Q (F0 m pc ls (.ref a :: rest)) :=
  va_getN X.1 X.2.1 X.hts hin X.2.2.2.1 X.K S.1 _ (fl_get he) hc k hk (va_Nw.use rfl (X.nw hlink rfl)) hsame hv hdg kk
theorem Sw.setc {H0 H1 : Heap} {locs1 : List Loc} {i : Nat} {x y : Nat × va_E} (he : Bs[i]? = some [x]) (h1 : va_P (gD G) mC (Bs.flatten.set (Bs.take i).flatten.length y) H1) (h2 : va_D A (Bs.flatten.set (Bs.take i).flatten.length y)) (h3 : va_S A H0 H1 locs1) : Sw G A H0 (Bs.set i [y]) H1 locs1 := by
  rw [fl_set he] at h1 h2
  exact ⟨h1, h2, h3⟩
theorem m_put (X : Cx G p s m ag c cc own nL A) (S : Sw G A s.heap Bs H locs) (i : Nat) {ci : Nat} {fs : List Value} (he : Bs[i]? = some [(a, .inr (ci, fs))]) {C : String} {T : u_T} {N : Nat} (hin : ∀ w ∈ u_ws C T N, w ∈ lw_all) (ty0 : Nat → FieldType) (hty : ∀ k, k < N → parseFieldDescriptor (T k).2.2.1 = some (ty0 k)) (hnm : ∀ a, a < N → ∀ b, b < N → a ≠ b → (T a).2.1 ≠ (T b).2.1) (hc : mC[ci]? = some (C, T, N)) (k : Nat) (hk : k < N) {ref : String} {index : Nat} (hlink : Cond.fieldLink own index ref (T k).2.1 (T k).2.2.1 ∈ lw_all) (hsame : ∀ x, s.fieldFound? (T k).1 (T k).2.1 (T k).2.2.1 = some x → s.fieldFound? ref (T k).2.1 (T k).2.2.1 = some x) (hfin : (T k).2.2.2 = false) {v : Value} (hn : narrow (ty0 k) v = v) (hfit : fits (ty0 k) v = true) (hl : k < fs.length) (hdg : decode cc pc = .ok (.putfield index, 3))
    (kk : ∀ (H1 : Heap) (locs1 : List Loc), Sw G A s.heap (Bs.set i [(a, .inr (ci, fs.set k v))]) H1 locs1 → W p l e R s m ag below meth c H1 locs1 cells slots Q (F0 m (pc + 3) ls rest)) : W p l e R s m ag below meth c H locs cells slots Q (F0 m pc ls (v :: .ref a :: rest)) :=
  va_put X.1 X.2.1 X.hts hin ty0 hty hnm X.2.2.2.1 X.K S.1 S.2.1 S.2.2 _ (fl_get he) hc k hk (X.hts _ hlink) hsame hfin (hty k hk) hn hfit hl hdg fun H1 locs1 h1 h2 h3 => kk H1 locs1 (Sw.setc he h1 h2 h3)
theorem m_putN (X : Cx G p s m ag c cc own nL A) (S : Sw G A s.heap Bs H locs) (i : Nat) {ci : Nat} {fs : List Value} (he : Bs[i]? = some [(a, .inr (ci, fs))]) {C : String} {T : u_T} {N : Nat} (hin : ∀ w ∈ u_ws C T N, w ∈ lw_all) (ty0 : Nat → FieldType) (hty : ∀ k, k < N → parseFieldDescriptor (T k).2.2.1 = some (ty0 k)) (hnm : ∀ a, a < N → ∀ b, b < N → a ≠ b → (T a).2.1 ≠ (T b).2.1) (hc : mC[ci]? = some (C, T, N)) (k : Nat) (hk : k < N) {ref host : String} {index : Nat} (hlink : Cond.fieldLinkNest own index ref (T k).2.1 (T k).2.2.1 host ∈ lw_tbl) (hsame : ∀ x, s.fieldFound? (T k).1 (T k).2.1 (T k).2.2.1 = some x → s.fieldFound? ref (T k).2.1 (T k).2.2.1 = some x) (hfin : (T k).2.2.2 = false) {v : Value} (hn : narrow (ty0 k) v = v) (hfit : fits (ty0 k) v = true) (hl : k < fs.length) (hdg : decode cc pc = .ok (.putfield index, 3))
    (kk : ∀ (H1 : Heap) (locs1 : List Loc), Sw G A s.heap (Bs.set i [(a, .inr (ci, fs.set k v))]) H1 locs1 → W p l e R s m ag below meth c H1 locs1 cells slots Q (F0 m (pc + 3) ls rest)) : W p l e R s m ag below meth c H locs cells slots Q (F0 m pc ls (v :: .ref a :: rest)) :=
  va_putN X.1 X.2.1 X.hts hin ty0 hty hnm X.2.2.2.1 X.K S.1 S.2.1 S.2.2 _ (fl_get he) hc k hk (va_Nw.use rfl (X.nw hlink rfl)) hsame hfin (hty k hk) hn hfit hl hdg fun H1 locs1 h1 h2 h3 => kk H1 locs1 (Sw.setc he h1 h2 h3)
theorem m_putF (X : Cx G p s m ag c cc own nL A) (hin2 : meth.name = "<init>") (S : Sw G A s.heap Bs H locs) (i : Nat) {ci : Nat} {fs : List Value} (he : Bs[i]? = some [(a, .inr (ci, fs))]) {C : String} {T : u_T} {N : Nat} (hin : ∀ w ∈ u_ws C T N, w ∈ lw_all) (ty0 : Nat → FieldType) (hty : ∀ k, k < N → parseFieldDescriptor (T k).2.2.1 = some (ty0 k)) (hnm : ∀ a, a < N → ∀ b, b < N → a ≠ b → (T a).2.1 ≠ (T b).2.1) (hc : mC[ci]? = some (C, T, N)) (k : Nat) (hk : k < N) {ref : String} {index : Nat} (hlink : Cond.fieldLink own index ref (T k).2.1 (T k).2.2.1 ∈ lw_all) (hsame : ∀ x, s.fieldFound? (T k).1 (T k).2.1 (T k).2.2.1 = some x → s.fieldFound? ref (T k).2.1 (T k).2.2.1 = some x) (hfin : (T k).2.2.2 = true) (hdecl : (T k).1 = own) {v : Value} (hn : narrow (ty0 k) v = v) (hfit : fits (ty0 k) v = true) (hl : k < fs.length) (hdg : decode cc pc = .ok (.putfield index, 3))
    (kk : ∀ (H1 : Heap) (locs1 : List Loc), Sw G A s.heap (Bs.set i [(a, .inr (ci, fs.set k v))]) H1 locs1 → W p l e R s m ag below meth c H1 locs1 cells slots Q (F0 m (pc + 3) ls rest)) : W p l e R s m ag below meth c H locs cells slots Q (F0 m pc ls (v :: .ref a :: rest)) :=
  va_putF X.1 X.2.1 X.hts hin ty0 hty hnm X.2.2.2.1 X.K S.1 S.2.1 S.2.2 _ (fl_get he) hc k hk (X.hts _ hlink) hsame hfin hin2 hdecl (hty k hk) hn hfit hl hdg fun H1 locs1 h1 h2 h3 => kk H1 locs1 (Sw.setc he h1 h2 h3)
theorem m_iald (X : Cx G p s m ag c cc own nL A) (S : Sw G A s.heap Bs H locs) (i : Nat) {n : Nat} {f : Nat → Int32} (he : Bs[i]? = some [(a, .inl (gA G 0, n, .inl f))]) {x : Int32} {j : Nat} (hj : x.toNatClampNeg = j) (hin : vp_in x n) {v : Int32} (hv : f j = v) (hdg : decode cc pc = .ok (.iaload, 1))
    (kk : W p l e R s m ag below meth c H locs cells slots Q (F0 m (pc + 1) ls (.int v :: rest))) : W p l e R s m ag below meth c H locs cells slots Q (F0 m pc ls (.int x :: .ref a :: rest)) := by
  subst hj; subst hv
  exact va_iald X.1 X.2.1 X.K S.1 _ 0 (fl_get he) rfl hin hdg kk
theorem m_lald (X : Cx G p s m ag c cc own nL A) (S : Sw G A s.heap Bs H locs) (i : Nat) {n : Nat} {f : Nat → Int64} (he : Bs[i]? = some [(a, .inl (gA G 1, n, .inr (.inl f)))]) {x : Int32} {j : Nat} (hj : x.toNatClampNeg = j) (hin : vp_in x n) {v : Int64} (hv : f j = v) (hdg : decode cc pc = .ok (.laload, 1))
    (kk : W p l e R s m ag below meth c H locs cells slots Q (F0 m (pc + 1) ls (.long v :: rest))) : W p l e R s m ag below meth c H locs cells slots Q (F0 m pc ls (.int x :: .ref a :: rest)) := by
  subst hj; subst hv
  exact va_lald X.1 X.2.1 X.K S.1 _ 1 (fl_get he) rfl hin hdg kk
theorem m_bald (X : Cx G p s m ag c cc own nL A) (S : Sw G A s.heap Bs H locs) (i : Nat) {n : Nat} {f : Nat → Int32} (he : Bs[i]? = some [(a, .inl (gA G 2, n, .inl f))]) {x : Int32} {j : Nat} (hj : x.toNatClampNeg = j) (hin : vp_in x n) {v : Int32} (hv : f j = v) (hdg : decode cc pc = .ok (.baload, 1))
    (kk : W p l e R s m ag below meth c H locs cells slots Q (F0 m (pc + 1) ls (.int v :: rest))) : W p l e R s m ag below meth c H locs cells slots Q (F0 m pc ls (.int x :: .ref a :: rest)) := by
  subst hj; subst hv
  exact va_bald X.1 X.2.1 X.K S.1 _ 2 (fl_get he) rfl hin hdg kk
theorem m_zald (X : Cx G p s m ag c cc own nL A) (S : Sw G A s.heap Bs H locs) (i : Nat) {n : Nat} {f : Nat → Int32} (he : Bs[i]? = some [(a, .inl (gA G 3, n, .inl f))]) {x : Int32} {j : Nat} (hj : x.toNatClampNeg = j) (hin : vp_in x n) {v : Int32} (hv : f j = v) (hdg : decode cc pc = .ok (.baload, 1))
    (kk : W p l e R s m ag below meth c H locs cells slots Q (F0 m (pc + 1) ls (.int v :: rest))) : W p l e R s m ag below meth c H locs cells slots Q (F0 m pc ls (.int x :: .ref a :: rest)) := by
  subst hj; subst hv
  exact va_zald X.1 X.2.1 X.K S.1 _ 3 (fl_get he) rfl hin hdg kk
theorem m_aald (X : Cx G p s m ag c cc own nL A) (S : Sw G A s.heap Bs H locs) (i t : Nat) {C : String} (ht : (mT G)[t]? = some (gA G t, .object C)) {n : Nat} {f : Nat → Option Nat} (he : Bs[i]? = some [(a, .inl (gA G t, n, .inr (.inr (.inr (.inr f)))))]) {x : Int32} {j : Nat} (hj : x.toNatClampNeg = j) (hin : vp_in x n) {v : Value} (hv : va_rf (f j) = v) (hdg : decode cc pc = .ok (.aaload, 1))
    (kk : W p l e R s m ag below meth c H locs cells slots Q (F0 m (pc + 1) ls (v :: rest))) : W p l e R s m ag below meth c H locs cells slots Q (F0 m pc ls (.int x :: .ref a :: rest)) := by
  subst hj; subst hv
  exact va_aldq X.1 X.2.1 X.K S.1 _ t (fl_get he) ht hin hdg kk
theorem m_iast (X : Cx G p s m ag c cc own nL A) (S : Sw G A s.heap Bs H locs) (i : Nat) {n : Nat} {f : Nat → Int32} (he : Bs[i]? = some [(a, .inl (gA G 0, n, .inl f))]) {x v : Int32} {j : Nat} (hj : x.toNatClampNeg = j) (hin : vp_in x n) (hdg : decode cc pc = .ok (.iastore, 1))
    (kk : ∀ (H1 : Heap) (locs1 : List Loc), Sw G A s.heap (Bs.set i [(a, .inl (gA G 0, n, .inl (upd f j v)))]) H1 locs1 → W p l e R s m ag below meth c H1 locs1 cells slots Q (F0 m (pc + 1) ls rest)) : W p l e R s m ag below meth c H locs cells slots Q (F0 m pc ls (.int v :: .int x :: .ref a :: rest)) := by
  subst hj
  exact va_iast X.1 X.2.1 X.K S.1 S.2.1 S.2.2 _ 0 (fl_get he) rfl hin hdg fun H1 locs1 h1 h2 h3 => kk H1 locs1 (Sw.setc he h1 h2 h3)
theorem m_last (X : Cx G p s m ag c cc own nL A) (S : Sw G A s.heap Bs H locs) (i : Nat) {n : Nat} {f : Nat → Int64} (he : Bs[i]? = some [(a, .inl (gA G 1, n, .inr (.inl f)))]) {x : Int32} {v : Int64} {j : Nat} (hj : x.toNatClampNeg = j) (hin : vp_in x n) (hdg : decode cc pc = .ok (.lastore, 1))
    (kk : ∀ (H1 : Heap) (locs1 : List Loc), Sw G A s.heap (Bs.set i [(a, .inl (gA G 1, n, .inr (.inl (vp_updL f j v))))]) H1 locs1 → W p l e R s m ag below meth c H1 locs1 cells slots Q (F0 m (pc + 1) ls rest)) : W p l e R s m ag below meth c H locs cells slots Q (F0 m pc ls (.long v :: .int x :: .ref a :: rest)) := by
  subst hj
  exact va_last X.1 X.2.1 X.K S.1 S.2.1 S.2.2 _ 1 (fl_get he) rfl hin hdg fun H1 locs1 h1 h2 h3 => kk H1 locs1 (Sw.setc he h1 h2 h3)
theorem m_bast (X : Cx G p s m ag c cc own nL A) (S : Sw G A s.heap Bs H locs) (i : Nat) {n : Nat} {f : Nat → Int32} (he : Bs[i]? = some [(a, .inl (gA G 2, n, .inl f))]) {x v w : Int32} {j : Nat} (hj : x.toNatClampNeg = j) (hw : vp_nar .byte v = w) (hin : vp_in x n) (hdg : decode cc pc = .ok (.bastore, 1))
    (kk : ∀ (H1 : Heap) (locs1 : List Loc), Sw G A s.heap (Bs.set i [(a, .inl (gA G 2, n, .inl (upd f j w)))]) H1 locs1 → W p l e R s m ag below meth c H1 locs1 cells slots Q (F0 m (pc + 1) ls rest)) : W p l e R s m ag below meth c H locs cells slots Q (F0 m pc ls (.int v :: .int x :: .ref a :: rest)) := by
  subst hj; subst hw
  exact va_bast X.1 X.2.1 X.K S.1 S.2.1 S.2.2 _ 2 (fl_get he) rfl hin hdg fun H1 locs1 h1 h2 h3 => kk H1 locs1 (Sw.setc he h1 h2 h3)
theorem m_zast (X : Cx G p s m ag c cc own nL A) (S : Sw G A s.heap Bs H locs) (i : Nat) {n : Nat} {f : Nat → Int32} (he : Bs[i]? = some [(a, .inl (gA G 3, n, .inl f))]) {x v w : Int32} {j : Nat} (hj : x.toNatClampNeg = j) (hw : vp_nar .boolean v = w) (hin : vp_in x n) (hdg : decode cc pc = .ok (.bastore, 1))
    (kk : ∀ (H1 : Heap) (locs1 : List Loc), Sw G A s.heap (Bs.set i [(a, .inl (gA G 3, n, .inl (upd f j w)))]) H1 locs1 → W p l e R s m ag below meth c H1 locs1 cells slots Q (F0 m (pc + 1) ls rest)) : W p l e R s m ag below meth c H locs cells slots Q (F0 m pc ls (.int v :: .int x :: .ref a :: rest)) := by
  subst hj; subst hw
  exact va_zast X.1 X.2.1 X.K S.1 S.2.1 S.2.2 _ 3 (fl_get he) rfl hin hdg fun H1 locs1 h1 h2 h3 => kk H1 locs1 (Sw.setc he h1 h2 h3)
/-- a reference to a cell of the world whose class is that of the array's component -/
theorem m_aast (X : Cx G p s m ag c cc own nL A) (S : Sw G A s.heap Bs H locs) (i t : Nat) {C : String} {n : Nat} {f : Nat → Option Nat} (he : Bs[i]? = some [(a, .inl (gA G t, n, .inr (.inr (.inr (.inr f)))))]) {r : vw_C} (hr : r.1 = C) (ht : (mT G)[t]? = some (gA G t, .object C)) (k : Nat) {ci v : Nat} {vs : List Value} (hv : Bs[k]? = some [(v, .inr (ci, vs))]) (hc : mC[ci]? = some r) {x : Int32} {j : Nat} (hj : x.toNatClampNeg = j) (hin : vp_in x n) (hdg : decode cc pc = .ok (.aastore, 1))
    (kk : ∀ (H1 : Heap) (locs1 : List Loc), Sw G A s.heap (Bs.set i [(a, .inl (gA G t, n, .inr (.inr (.inr (.inr (va_up f j (some v)))))))]) H1 locs1 → W p l e R s m ag below meth c H1 locs1 cells slots Q (F0 m (pc + 1) ls rest)) : W p l e R s m ag below meth c H locs cells slots Q (F0 m pc ls (.ref v :: .int x :: .ref a :: rest)) := by
  subst hj; subst hr
  exact va_astq X.1 X.2.1 X.K S.1 S.2.1 S.2.2 _ t _ ci (fl_get he) ht (fl_get hv) hc hin hdg fun H1 locs1 h1 h2 h3 => kk H1 locs1 (Sw.setc he h1 h2 h3)
/-- .. of an array of Objects: the cell's class castable to it -/
theorem m_aastO (X : Cx G p s m ag c cc own nL A) (S : Sw G A s.heap Bs H locs) (i t : Nat) {E : String} {n : Nat} {f : Nat → Option Nat} (he : Bs[i]? = some [(a, .inl (gA G t, n, .inr (.inr (.inr (.inr f)))))]) {r : vw_C} (ht : (mT G)[t]? = some (gA G t, .object E)) (hca : va_Nw (.castable r.1 E) s) (k : Nat) {ci v : Nat} {vs : List Value} (hv : Bs[k]? = some [(v, .inr (ci, vs))]) (hc : mC[ci]? = some r) {x : Int32} {j : Nat} (hj : x.toNatClampNeg = j) (hin : vp_in x n) (hdg : decode cc pc = .ok (.aastore, 1))
    (kk : ∀ (H1 : Heap) (locs1 : List Loc), Sw G A s.heap (Bs.set i [(a, .inl (gA G t, n, .inr (.inr (.inr (.inr (va_up f j (some v)))))))]) H1 locs1 → W p l e R s m ag below meth c H1 locs1 cells slots Q (F0 m (pc + 1) ls rest)) : W p l e R s m ag below meth c H locs cells slots Q (F0 m pc ls (.ref v :: .int x :: .ref a :: rest)) := by
  subst hj
  exact va_astqO X.1 X.2.1 X.K S.1 S.2.1 S.2.2 _ t _ ci (fl_get he) ht hca (fl_get hv) hc hin hdg fun H1 locs1 h1 h2 h3 => kk H1 locs1 (Sw.setc he h1 h2 h3)
theorem m_aastN (X : Cx G p s m ag c cc own nL A) (S : Sw G A s.heap Bs H locs) (i t : Nat) {C : String} {n : Nat} {f : Nat → Option Nat} (he : Bs[i]? = some [(a, .inl (gA G t, n, .inr (.inr (.inr (.inr f)))))]) (ht : (mT G)[t]? = some (gA G t, .object C)) {x : Int32} {j : Nat} (hj : x.toNatClampNeg = j) (hin : vp_in x n) (hdg : decode cc pc = .ok (.aastore, 1))
    (kk : ∀ (H1 : Heap) (locs1 : List Loc), Sw G A s.heap (Bs.set i [(a, .inl (gA G t, n, .inr (.inr (.inr (.inr (va_up f j none))))))]) H1 locs1 → W p l e R s m ag below meth c H1 locs1 cells slots Q (F0 m (pc + 1) ls rest)) : W p l e R s m ag below meth c H locs cells slots Q (F0 m pc ls (.null :: .int x :: .ref a :: rest)) := by
  subst hj
  exact va_astqN X.1 X.2.1 X.K S.1 S.2.1 S.2.2 _ t (fl_get he) ht hin hdg fun H1 locs1 h1 h2 h3 => kk H1 locs1 (Sw.setc he h1 h2 h3)
theorem m_alen (X : Cx G p s m ag c cc own nL A) (S : Sw G A s.heap Bs H locs) (i t : Nat) {x : vp_A} (he : Bs[i]? = some [(a, .inl (gA G t, x))]) {ty : FieldType} (ht : (mT G)[t]? = some (gA G t, ty)) {v : Int32} (hv : Int32.ofNat x.1 = v) (hdg : decode cc pc = .ok (.arraylength, 1))
    (kk : W p l e R s m ag below meth c H locs cells slots Q (F0 m (pc + 1) ls (.int v :: rest))) : W p l e R s m ag below meth c H locs cells slots Q (F0 m pc ls (.ref a :: rest)) :=
  va_alen X.1 X.2.1 X.K S.1 _ t (fl_get he) ht hv hdg kk
theorem Sw.push {H0 H1 : Heap} {locs1 : List Loc} {x : Nat × va_E} (h1 : va_P (gD G) mC (Bs.flatten ++ [x]) H1) (h2 : va_D A (Bs.flatten ++ [x])) (h3 : va_S A H0 H1 locs1) : Sw G A H0 (Bs ++ [[x]]) H1 locs1 := by
  have e : (Bs ++ [[x]]).flatten = Bs.flatten ++ [x] := by rw [List.flatten_append]; rfl
  unfold Sw
  rw [e]
  exact ⟨h1, h2, h3⟩
theorem m_new (X : Cx G p s m ag c cc own nL A) (S : Sw G A s.heap Bs H locs) {C : String} {T : u_T} {N ci index : Nat} (hin : ∀ w ∈ u_ws C T N, w ∈ lw_all) (ty : Nat → FieldType) (hty : ∀ k, k < N → parseFieldDescriptor (T k).2.2.1 = some (ty k)) (hcl : Cond.classLink own index C ∈ lw_all) (hinst : Cond.instantiable C N ∈ lw_all) (hini : Cond.initialized C ∈ lw_all) (hc : mC[ci]? = some (C, T, N)) {fs : List Value} (hfs : ∀ j, j < N → defaultValue (ty j) = vp_V fs j) (hcells : cells + 1 ≤ R.cells) (hslots : slots + N ≤ R.slots) (hdg : decode cc pc = .ok (.new index, 3))
    (kk : ∀ (q : Nat) (H1 : Heap), Sw G A s.heap (Bs ++ [[(q, .inr (ci, fs))]]) H1 locs → W p l e R s m ag below meth c H1 locs (cells + 1) (slots + N) Q (F0 m (pc + 3) ls (.ref q :: rest))) : W p l e R s m ag below meth c H locs cells slots Q (F0 m pc ls rest) :=
  va_new X.1 X.2.1 X.hts hin ty hty X.2.2.2.1 (X.hts _ hcl) (X.hts _ hinst) (X.hts _ hini) X.K S.1 S.2.1 S.2.2 X.hA hc hfs hcells hslots hdg fun q H1 h1 h2 h3 => kk q H1 (Sw.push h1 h2 h3)
theorem mK_prim {tys : List (ClassId × FieldType)} {t : Nat} {cA cA' : ClassId} {ty : FieldType} (hK : va_K (gD G) mC (tys ++ [(cA, ty)]) s) (hp : ∀ U c, va_RA U c ty → U.vm.findClass ("[" ++ ty.toString) = some c) (ht : tys[t]? = some (cA', ty)) : cA = cA' := by
  have h1 := hp _ _ (hK.2 tys.length (cA, ty) (by rw [List.getElem?_append_right (Nat.le_refl _), Nat.sub_self]; rfl)).2
  have h2 := hp _ _ (hK.2 t (cA', ty) (by rw [List.getElem?_append_left (List.getElem?_eq_some_iff.mp ht).1]; exact ht)).2
  exact Option.some.inj (h1.symm.trans h2)
theorem m_newI (X : Cx G p s m ag c cc own nL A) (S : Sw G A s.heap Bs H locs) {x : Int32} {N : Nat} (hn : ¬ x < 0) (hN : x.toNatClampNeg = N) (hbytes : N * 4 ≤ 536870912) (hcells : cells + 1 ≤ R.cells) (hslots : slots + N ≤ R.slots) (hdg : decode cc pc = .ok (.newarray .int, 2))
    (kk : ∀ (q : Nat) (H1 : Heap), Sw G A s.heap (Bs ++ [[(q, .inl (gA G 0, N, .inl (fun _ => 0)))]]) H1 locs → W p l e R s m ag below meth c H1 locs (cells + 1) (slots + N) Q (F0 m (pc + 2) ls (.ref q :: rest))) : W p l e R s m ag below meth c H locs cells slots Q (F0 m pc ls (.int x :: rest)) :=
  va_newa (atype := .int) (ty := .int) (a0 := (N, .inl (fun _ => 0))) X.1 X.2.1 (X.hts _ q154) rfl X.K S.1 S.2.1 S.2.2 X.hA (fun _ => rfl) hn hN hbytes hcells hslots hdg fun q cA H1 hK h1 h2 h3 => by
    have e : cA = gA G 0 := mK_prim (t := 0) hK (fun U c h => h) rfl
    subst e
    exact kk q H1 (Sw.push h1 h2 h3)
theorem m_newJ (X : Cx G p s m ag c cc own nL A) (S : Sw G A s.heap Bs H locs) {x : Int32} {N : Nat} (hn : ¬ x < 0) (hN : x.toNatClampNeg = N) (hbytes : N * 8 ≤ 536870912) (hcells : cells + 1 ≤ R.cells) (hslots : slots + N ≤ R.slots) (hdg : decode cc pc = .ok (.newarray .long, 2))
    (kk : ∀ (q : Nat) (H1 : Heap), Sw G A s.heap (Bs ++ [[(q, .inl (gA G 1, N, .inr (.inl (fun _ => 0))))]]) H1 locs → W p l e R s m ag below meth c H1 locs (cells + 1) (slots + N) Q (F0 m (pc + 2) ls (.ref q :: rest))) : W p l e R s m ag below meth c H locs cells slots Q (F0 m pc ls (.int x :: rest)) :=
  va_newa (atype := .long) (ty := .long) (a0 := (N, .inr (.inl (fun _ => 0)))) X.1 X.2.1 (X.hts _ q155) rfl X.K S.1 S.2.1 S.2.2 X.hA (fun _ => rfl) hn hN hbytes hcells hslots hdg fun q cA H1 hK h1 h2 h3 => by
    have e : cA = gA G 1 := mK_prim (t := 1) hK (fun U c h => h) rfl
    subst e
    exact kk q H1 (Sw.push h1 h2 h3)
theorem m_newB (X : Cx G p s m ag c cc own nL A) (S : Sw G A s.heap Bs H locs) {x : Int32} {N : Nat} (hn : ¬ x < 0) (hN : x.toNatClampNeg = N) (hbytes : N * 1 ≤ 536870912) (hcells : cells + 1 ≤ R.cells) (hslots : slots + N ≤ R.slots) (hdg : decode cc pc = .ok (.newarray .byte, 2))
    (kk : ∀ (q : Nat) (H1 : Heap), Sw G A s.heap (Bs ++ [[(q, .inl (gA G 2, N, .inl (fun _ => 0)))]]) H1 locs → W p l e R s m ag below meth c H1 locs (cells + 1) (slots + N) Q (F0 m (pc + 2) ls (.ref q :: rest))) : W p l e R s m ag below meth c H locs cells slots Q (F0 m pc ls (.int x :: rest)) :=
  va_newa (atype := .byte) (ty := .byte) (a0 := (N, .inl (fun _ => 0))) X.1 X.2.1 (X.hts _ q319) rfl X.K S.1 S.2.1 S.2.2 X.hA (fun _ => rfl) hn hN hbytes hcells hslots hdg fun q cA H1 hK h1 h2 h3 => by
    have e : cA = gA G 2 := mK_prim (t := 2) hK (fun U c h => h) rfl
    subst e
    exact kk q H1 (Sw.push h1 h2 h3)
theorem m_newZ (X : Cx G p s m ag c cc own nL A) (S : Sw G A s.heap Bs H locs) {x : Int32} {N : Nat} (hn : ¬ x < 0) (hN : x.toNatClampNeg = N) (hbytes : N * 1 ≤ 536870912) (hcells : cells + 1 ≤ R.cells) (hslots : slots + N ≤ R.slots) (hdg : decode cc pc = .ok (.newarray .boolean, 2))
    (kk : ∀ (q : Nat) (H1 : Heap), Sw G A s.heap (Bs ++ [[(q, .inl (gA G 3, N, .inl (fun _ => 0)))]]) H1 locs → W p l e R s m ag below meth c H1 locs (cells + 1) (slots + N) Q (F0 m (pc + 2) ls (.ref q :: rest))) : W p l e R s m ag below meth c H locs cells slots Q (F0 m pc ls (.int x :: rest)) :=
  va_newa (atype := .boolean) (ty := .boolean) (a0 := (N, .inl (fun _ => 0))) X.1 X.2.1 (X.hts _ q1761) rfl X.K S.1 S.2.1 S.2.2 X.hA (fun _ => rfl) hn hN hbytes hcells hslots hdg fun q cA H1 hK h1 h2 h3 => by
    have e : cA = gA G 3 := mK_prim (t := 3) hK (fun U c h => h) rfl
    subst e
    exact kk q H1 (Sw.push h1 h2 h3)
theorem m_newq (X : Cx G p s m ag c cc own nL A) (S : Sw G A s.heap Bs H locs) (t : Nat) {C : String} {index : Nat} (hcl : Cond.classLink own index C ∈ lw_all) (hover : va_AO C s) (ht : (mT G)[t]? = some (gA G t, .object C)) {x : Int32} {N : Nat} (hn : ¬ x < 0) (hN : x.toNatClampNeg = N) (hbytes : N * 4 ≤ 536870912) (hcells : cells + 1 ≤ R.cells) (hslots : slots + N ≤ R.slots) (hdg : decode cc pc = .ok (.anewarray index, 3))
    (kk : ∀ (q : Nat) (H1 : Heap), Sw G A s.heap (Bs ++ [[(q, .inl (gA G t, N, .inr (.inr (.inr (.inr (fun _ => none))))))]]) H1 locs → W p l e R s m ag below meth c H1 locs (cells + 1) (slots + N) Q (F0 m (pc + 3) ls (.ref q :: rest))) : W p l e R s m ag below meth c H locs cells slots Q (F0 m pc ls (.int x :: rest)) :=
  va_newq X.1 X.2.1 X.2.2.2.1 (X.hts _ hcl) hover X.K S.1 S.2.1 S.2.2 X.hA hn hN hbytes hcells hslots hdg fun q cA H1 hK h1 h2 h3 => by
    have e : cA = gA G t := mK_prim (t := t) hK (fun U c h => by obtain ⟨_, _, _, _, _, h4⟩ := h; exact h4) ht
    subst e
    exact kk q H1 (Sw.push h1 h2 h3)
end MX
