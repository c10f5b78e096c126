/-! more rows: equals for equals -/
set_option maxRecDepth 100000
section VR4
variable {l : Launch} {G : GT} {z : Nat} {p : Program} {e : Env} {R : Room} {s : State} {m : MethodId} {args : Array Value} {below : List Frame} {meth : Method} {c : Code} {nL : Nat} {Q : State → Prop} {pc : Nat} {lv lv' : List (Nat × Value)} {st st' : List Value} {h h' : HF} {k n k' n' : Nat}
theorem v_eql {x y : Int64} (hxy : x = y) (kk : V p l e R s m args below meth c Q G z nL pc lv (.long y :: st) h k n) : V p l e R s m args below meth c Q G z nL pc lv (.long x :: st) h k n := by rw [hxy]; exact kk
theorem v_lveq (hl : lv = lv') (kk : V p l e R s m args below meth c Q G z nL pc lv' st h k n) : V p l e R s m args below meth c Q G z nL pc lv st h k n := by rw [hl]; exact kk
theorem v_steq (hl : st = st') (kk : V p l e R s m args below meth c Q G z nL pc lv st' h k n) : V p l e R s m args below meth c Q G z nL pc lv st h k n := by rw [hl]; exact kk
theorem v_heq (hl : h = h') (kk : V p l e R s m args below meth c Q G z nL pc lv st h' k n) : V p l e R s m args below meth c Q G z nL pc lv st h k n := by rw [hl]; exact kk
theorem v_kn (h1 : k = k') (h2 : n = n') (kk : V p l e R s m args below meth c Q G z nL pc lv st h k' n') : V p l e R s m args below meth c Q G z nL pc lv st h k n := by rw [h1, h2]; exact kk
end VR4
