/-! Part 39v: the exceptions' constructors -/
theorem t_Fault {l : Launch} {G : JG} (hG : gO G = true) {h : MH} {a e : Int} {Q : Int → MH → Prop} {E : Nat → Int → MH → Prop} (hQ : Q 0 (hset h a 0 e)) : S_X17_init l G [(2017, a), (0, e)] h Q E := t_ex17 hG (by decide) (by decide) hQ
theorem t_Wrong {l : Launch} {G : JG} (hG : gO G = true) {h : MH} {a e : Int} {Q : Int → MH → Prop} {E : Nat → Int → MH → Prop} (hQ : Q 0 (hset h a 0 e)) : S_X13_init l G [(2013, a), (0, e)] h Q E := t_ex13 hG (by decide) (by decide) hQ
