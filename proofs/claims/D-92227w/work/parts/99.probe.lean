theorem zz_probe : True := trivial
